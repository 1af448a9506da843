/-! CrewPairerModel -/
set_option maxRecDepth 100000
def RX2 : String := "CrewPairerModel"
def TX2 : u_T := fun k => match k with
  | 0 => ("CrewPairerModel", "s", "[I", true)
  | 1 => ("CrewPairerModel", "saved", "[I", true)
  | 2 => ("CrewPairerModel", "isSaved", "Z", false)
  | 3 => ("CrewPairerModel", "past", "[I", true)
  | 4 => ("CrewPairerModel", "pastMany", "I", false)
  | 5 => ("CrewPairerModel", "before", "[I", true)
  | 6 => ("CrewPairerModel", "isQuiet", "Z", false)
  | 7 => ("CrewPairerModel", "row", "[I", true)
  | 8 => ("CrewPairerModel", "many", "I", false)
  | 9 => ("CrewPairerModel", "base", "I", false)
  | 10 => ("CrewPairerModel", "opens", "[I", true)
  | 11 => ("CrewPairerModel", "openMany", "I", false)
  | 12 => ("CrewPairerModel", "offerCrew", "I", false)
  | 13 => ("CrewPairerModel", "offerLeg", "I", false)
  | 14 => ("CrewPairerModel", "offerPrice", "I", false)
  | 15 => ("CrewPairerModel", "offerMinutes", "I", false)
  | 16 => ("CrewPairerModel", "passed", "[I", true)
  | 17 => ("CrewPairerModel", "removed", "[I", true)
  | 18 => ("CrewPairerModel", "removedMany", "I", false)
  | 19 => ("CrewPairerModel", "way", "[I", true)
  | 20 => ("CrewPairerModel", "best", "[I", true)
  | 21 => ("CrewPairerModel", "bestMany", "I", false)
  | 22 => ("CrewPairerModel", "bestMinutes", "I", false)
  | 23 => ("CrewPairerModel", "written", "[C", true)
  | 24 => ("CrewPairerModel", "writtenMany", "I", false)
  | 25 => ("CrewPairerModel", "text", "[C", true)
  | 26 => ("CrewPairerModel", "length", "I", false)
  | 27 => ("CrewPairerModel", "place", "I", false)
  | 28 => ("CrewPairerModel", "isWrong", "Z", false)
  | _ => ("CrewPairerModel", "numbers", "[I", true)
def tyX2 : Nat → FieldType := fun k => match k with
  | 0 => .array .int
  | 1 => .array .int
  | 2 => .boolean
  | 3 => .array .int
  | 4 => .int
  | 5 => .array .int
  | 6 => .boolean
  | 7 => .array .int
  | 8 => .int
  | 9 => .int
  | 10 => .array .int
  | 11 => .int
  | 12 => .int
  | 13 => .int
  | 14 => .int
  | 15 => .int
  | 16 => .array .int
  | 17 => .array .int
  | 18 => .int
  | 19 => .array .int
  | 20 => .array .int
  | 21 => .int
  | 22 => .int
  | 23 => .array .char
  | 24 => .int
  | 25 => .array .char
  | 26 => .int
  | 27 => .int
  | 28 => .boolean
  | _ => .array .int
abbrev wsX20 : List Cond := u_ws RX2 TX2 30
set_option maxRecDepth 100000 in
theorem nmX2 : ∀ a, a < 30 → ∀ b, b < 30 → a ≠ b → (TX2 a).2.1 ≠ (TX2 b).2.1 := by decide +kernel
set_option maxRecDepth 100000 in
theorem tyX2_ok : ∀ k, k < 30 → parseFieldDescriptor (TX2 k).2.2.1 = some (tyX2 k) := by decide +kernel
abbrev cX2_init : ByteArray := prog_12_method_1_code
def yX2_init : MethodName := ⟨RX2, "<init>", "()V"⟩
def dkwX2_init_5 : List UInt8 := [178, 0, 50, 3, 42, 180, 0, 9, 5, 16, 8, 184, 0, 53, 177]
abbrev dktX2_init_5 : List UInt8 := dkwX2_init_5 ++ []
def dkwX2_init_4 : List UInt8 := [17, 3, 0, 188, 5, 181, 0, 40, 42, 16, 60, 188, 5, 181, 0, 44, 42, 7, 188, 10, 181, 0, 47]
abbrev dktX2_init_4 : List UInt8 := dkwX2_init_4 ++ dktX2_init_5
def dkwX2_init_3 : List UInt8 := [188, 10, 181, 0, 31, 42, 16, 6, 188, 10, 181, 0, 34, 42, 16, 6, 188, 10, 181, 0, 37, 42]
abbrev dktX2_init_3 : List UInt8 := dkwX2_init_3 ++ dktX2_init_4
def dkwX2_init_2 : List UInt8 := [181, 0, 22, 42, 16, 25, 188, 10, 181, 0, 25, 42, 16, 25, 188, 10, 181, 0, 28, 42, 17, 2, 64]
abbrev dktX2_init_2 : List UInt8 := dkwX2_init_2 ++ dktX2_init_3
def dkwX2_init_1 : List UInt8 := [17, 9, 80, 188, 10, 181, 0, 16, 42, 17, 1, 42, 188, 10, 181, 0, 19, 42, 16, 48, 188, 10]
abbrev dktX2_init_1 : List UInt8 := dkwX2_init_1 ++ dktX2_init_2
def dkwX2_init_0 : List UInt8 := [42, 183, 0, 3, 42, 17, 1, 42, 188, 10, 181, 0, 9, 42, 17, 1, 42, 188, 10, 181, 0, 13, 42]
abbrev dktX2_init_0 : List UInt8 := dkwX2_init_0 ++ dktX2_init_1
theorem dksX2_init_0 : cX2_init.data.toList.drop 0 = dktX2_init_0 := by decide +kernel
theorem dksX2_init_1 : cX2_init.data.toList.drop 23 = dktX2_init_1 := dk_seg dksX2_init_0 23 rfl rfl
theorem dksX2_init_2 : cX2_init.data.toList.drop 45 = dktX2_init_2 := dk_seg dksX2_init_1 22 rfl rfl
theorem dksX2_init_3 : cX2_init.data.toList.drop 68 = dktX2_init_3 := dk_seg dksX2_init_2 23 rfl rfl
theorem dksX2_init_4 : cX2_init.data.toList.drop 90 = dktX2_init_4 := dk_seg dksX2_init_3 22 rfl rfl
theorem dksX2_init_5 : cX2_init.data.toList.drop 113 = dktX2_init_5 := dk_seg dksX2_init_4 23 rfl rfl
theorem dX2_init_0 : decode cX2_init 0 = .ok (.aload_n 0, 1) := dk_42 (dk_at dksX2_init_0 0 rfl rfl)
theorem dX2_init_1 : decode cX2_init 1 = .ok (.invokespecial 3, 3) := dk_183 0 3 (dk_at dksX2_init_0 1 rfl rfl)
theorem dX2_init_4 : decode cX2_init 4 = .ok (.aload_n 0, 1) := dk_42 (dk_at dksX2_init_0 4 rfl rfl)
theorem dX2_init_5 : decode cX2_init 5 = .ok (.sipush 298, 3) := dk_17 1 42 (dk_at dksX2_init_0 5 rfl rfl)
theorem dX2_init_8 : decode cX2_init 8 = .ok (.newarray .int, 2) := dk_188_10 (dk_at dksX2_init_0 8 rfl rfl)
theorem dX2_init_10 : decode cX2_init 10 = .ok (.putfield 9, 3) := dk_181 0 9 (dk_at dksX2_init_0 10 rfl rfl)
theorem dX2_init_13 : decode cX2_init 13 = .ok (.aload_n 0, 1) := dk_42 (dk_at dksX2_init_0 13 rfl rfl)
theorem dX2_init_14 : decode cX2_init 14 = .ok (.sipush 298, 3) := dk_17 1 42 (dk_at dksX2_init_0 14 rfl rfl)
theorem dX2_init_17 : decode cX2_init 17 = .ok (.newarray .int, 2) := dk_188_10 (dk_at dksX2_init_0 17 rfl rfl)
theorem dX2_init_19 : decode cX2_init 19 = .ok (.putfield 13, 3) := dk_181 0 13 (dk_at dksX2_init_0 19 rfl rfl)
theorem dX2_init_22 : decode cX2_init 22 = .ok (.aload_n 0, 1) := dk_42 (dk_at dksX2_init_0 22 rfl rfl)
theorem dX2_init_23 : decode cX2_init 23 = .ok (.sipush 2384, 3) := dk_17 9 80 (dk_at dksX2_init_1 0 rfl rfl)
theorem dX2_init_26 : decode cX2_init 26 = .ok (.newarray .int, 2) := dk_188_10 (dk_at dksX2_init_1 3 rfl rfl)
theorem dX2_init_28 : decode cX2_init 28 = .ok (.putfield 16, 3) := dk_181 0 16 (dk_at dksX2_init_1 5 rfl rfl)
theorem dX2_init_31 : decode cX2_init 31 = .ok (.aload_n 0, 1) := dk_42 (dk_at dksX2_init_1 8 rfl rfl)
theorem dX2_init_32 : decode cX2_init 32 = .ok (.sipush 298, 3) := dk_17 1 42 (dk_at dksX2_init_1 9 rfl rfl)
theorem dX2_init_35 : decode cX2_init 35 = .ok (.newarray .int, 2) := dk_188_10 (dk_at dksX2_init_1 12 rfl rfl)
theorem dX2_init_37 : decode cX2_init 37 = .ok (.putfield 19, 3) := dk_181 0 19 (dk_at dksX2_init_1 14 rfl rfl)
theorem dX2_init_40 : decode cX2_init 40 = .ok (.aload_n 0, 1) := dk_42 (dk_at dksX2_init_1 17 rfl rfl)
theorem dX2_init_41 : decode cX2_init 41 = .ok (.bipush 48, 2) := dk_16 48 (dk_at dksX2_init_1 18 rfl rfl)
theorem dX2_init_43 : decode cX2_init 43 = .ok (.newarray .int, 2) := dk_188_10 (dk_at dksX2_init_1 20 rfl rfl)
theorem dX2_init_45 : decode cX2_init 45 = .ok (.putfield 22, 3) := dk_181 0 22 (dk_at dksX2_init_2 0 rfl rfl)
theorem dX2_init_48 : decode cX2_init 48 = .ok (.aload_n 0, 1) := dk_42 (dk_at dksX2_init_2 3 rfl rfl)
theorem dX2_init_49 : decode cX2_init 49 = .ok (.bipush 25, 2) := dk_16 25 (dk_at dksX2_init_2 4 rfl rfl)
theorem dX2_init_51 : decode cX2_init 51 = .ok (.newarray .int, 2) := dk_188_10 (dk_at dksX2_init_2 6 rfl rfl)
theorem dX2_init_53 : decode cX2_init 53 = .ok (.putfield 25, 3) := dk_181 0 25 (dk_at dksX2_init_2 8 rfl rfl)
theorem dX2_init_56 : decode cX2_init 56 = .ok (.aload_n 0, 1) := dk_42 (dk_at dksX2_init_2 11 rfl rfl)
theorem dX2_init_57 : decode cX2_init 57 = .ok (.bipush 25, 2) := dk_16 25 (dk_at dksX2_init_2 12 rfl rfl)
theorem dX2_init_59 : decode cX2_init 59 = .ok (.newarray .int, 2) := dk_188_10 (dk_at dksX2_init_2 14 rfl rfl)
theorem dX2_init_61 : decode cX2_init 61 = .ok (.putfield 28, 3) := dk_181 0 28 (dk_at dksX2_init_2 16 rfl rfl)
theorem dX2_init_64 : decode cX2_init 64 = .ok (.aload_n 0, 1) := dk_42 (dk_at dksX2_init_2 19 rfl rfl)
theorem dX2_init_65 : decode cX2_init 65 = .ok (.sipush 576, 3) := dk_17 2 64 (dk_at dksX2_init_2 20 rfl rfl)
theorem dX2_init_68 : decode cX2_init 68 = .ok (.newarray .int, 2) := dk_188_10 (dk_at dksX2_init_3 0 rfl rfl)
theorem dX2_init_70 : decode cX2_init 70 = .ok (.putfield 31, 3) := dk_181 0 31 (dk_at dksX2_init_3 2 rfl rfl)
theorem dX2_init_73 : decode cX2_init 73 = .ok (.aload_n 0, 1) := dk_42 (dk_at dksX2_init_3 5 rfl rfl)
theorem dX2_init_74 : decode cX2_init 74 = .ok (.bipush 6, 2) := dk_16 6 (dk_at dksX2_init_3 6 rfl rfl)
theorem dX2_init_76 : decode cX2_init 76 = .ok (.newarray .int, 2) := dk_188_10 (dk_at dksX2_init_3 8 rfl rfl)
theorem dX2_init_78 : decode cX2_init 78 = .ok (.putfield 34, 3) := dk_181 0 34 (dk_at dksX2_init_3 10 rfl rfl)
theorem dX2_init_81 : decode cX2_init 81 = .ok (.aload_n 0, 1) := dk_42 (dk_at dksX2_init_3 13 rfl rfl)
theorem dX2_init_82 : decode cX2_init 82 = .ok (.bipush 6, 2) := dk_16 6 (dk_at dksX2_init_3 14 rfl rfl)
theorem dX2_init_84 : decode cX2_init 84 = .ok (.newarray .int, 2) := dk_188_10 (dk_at dksX2_init_3 16 rfl rfl)
theorem dX2_init_86 : decode cX2_init 86 = .ok (.putfield 37, 3) := dk_181 0 37 (dk_at dksX2_init_3 18 rfl rfl)
theorem dX2_init_89 : decode cX2_init 89 = .ok (.aload_n 0, 1) := dk_42 (dk_at dksX2_init_3 21 rfl rfl)
theorem dX2_init_90 : decode cX2_init 90 = .ok (.sipush 768, 3) := dk_17 3 0 (dk_at dksX2_init_4 0 rfl rfl)
theorem dX2_init_93 : decode cX2_init 93 = .ok (.newarray .char, 2) := dk_188_5 (dk_at dksX2_init_4 3 rfl rfl)
theorem dX2_init_95 : decode cX2_init 95 = .ok (.putfield 40, 3) := dk_181 0 40 (dk_at dksX2_init_4 5 rfl rfl)
theorem dX2_init_98 : decode cX2_init 98 = .ok (.aload_n 0, 1) := dk_42 (dk_at dksX2_init_4 8 rfl rfl)
theorem dX2_init_99 : decode cX2_init 99 = .ok (.bipush 60, 2) := dk_16 60 (dk_at dksX2_init_4 9 rfl rfl)
theorem dX2_init_101 : decode cX2_init 101 = .ok (.newarray .char, 2) := dk_188_5 (dk_at dksX2_init_4 11 rfl rfl)
theorem dX2_init_103 : decode cX2_init 103 = .ok (.putfield 44, 3) := dk_181 0 44 (dk_at dksX2_init_4 13 rfl rfl)
theorem dX2_init_106 : decode cX2_init 106 = .ok (.aload_n 0, 1) := dk_42 (dk_at dksX2_init_4 16 rfl rfl)
theorem dX2_init_107 : decode cX2_init 107 = .ok (.iconst 4, 1) := dk_7 (dk_at dksX2_init_4 17 rfl rfl)
theorem dX2_init_108 : decode cX2_init 108 = .ok (.newarray .int, 2) := dk_188_10 (dk_at dksX2_init_4 18 rfl rfl)
theorem dX2_init_110 : decode cX2_init 110 = .ok (.putfield 47, 3) := dk_181 0 47 (dk_at dksX2_init_4 20 rfl rfl)
theorem dX2_init_113 : decode cX2_init 113 = .ok (.getstatic 50, 3) := dk_178 0 50 (dk_at dksX2_init_5 0 rfl rfl)
theorem dX2_init_116 : decode cX2_init 116 = .ok (.iconst 0, 1) := dk_3 (dk_at dksX2_init_5 3 rfl rfl)
theorem dX2_init_117 : decode cX2_init 117 = .ok (.aload_n 0, 1) := dk_42 (dk_at dksX2_init_5 4 rfl rfl)
theorem dX2_init_118 : decode cX2_init 118 = .ok (.getfield 9, 3) := dk_180 0 9 (dk_at dksX2_init_5 5 rfl rfl)
theorem dX2_init_121 : decode cX2_init 121 = .ok (.iconst 2, 1) := dk_5 (dk_at dksX2_init_5 8 rfl rfl)
theorem dX2_init_122 : decode cX2_init 122 = .ok (.bipush 8, 2) := dk_16 8 (dk_at dksX2_init_5 9 rfl rfl)
theorem dX2_init_124 : decode cX2_init 124 = .ok (.invokestatic 53, 3) := dk_184 0 53 (dk_at dksX2_init_5 11 rfl rfl)
theorem dX2_init_127 : decode cX2_init 127 = .ok (.return_, 1) := dk_177 (dk_at dksX2_init_5 14 rfl rfl)
abbrev cX2_addLeg : ByteArray := prog_12_method_12_code
def yX2_addLeg : MethodName := ⟨RX2, "addLeg", "(IIII)I"⟩
def dkwX2_addLeg_7 : List UInt8 := [180, 0, 9, 3, 92, 46, 4, 96, 79, 42, 180, 0, 9, 3, 46, 4, 100, 172]
abbrev dktX2_addLeg_7 : List UInt8 := dkwX2_addLeg_7 ++ []
def dkwX2_addLeg_6 : List UInt8 := [29, 79, 42, 180, 0, 9, 21, 6, 6, 96, 21, 4, 79, 42, 180, 0, 9, 21, 6, 7, 96, 3, 79, 42]
abbrev dktX2_addLeg_6 : List UInt8 := dkwX2_addLeg_6 ++ dktX2_addLeg_7
def dkwX2_addLeg_5 : List UInt8 := [21, 6, 3, 96, 27, 79, 42, 180, 0, 9, 21, 6, 4, 96, 28, 79, 42, 180, 0, 9, 21, 6, 5, 96]
abbrev dktX2_addLeg_5 : List UInt8 := dkwX2_addLeg_5 ++ dktX2_addLeg_6
def dkwX2_addLeg_4 : List UInt8 := [16, 253, 172, 42, 182, 0, 88, 16, 10, 8, 42, 180, 0, 9, 3, 46, 104, 96, 54, 6, 42, 180, 0, 9]
abbrev dktX2_addLeg_4 : List UInt8 := dkwX2_addLeg_4 ++ dktX2_addLeg_5
def dkwX2_addLeg_3 : List UInt8 := [27, 28, 29, 182, 0, 84, 153, 0, 6, 16, 252, 172, 42, 180, 0, 9, 3, 46, 16, 24, 160, 0, 6]
abbrev dktX2_addLeg_3 : List UInt8 := dkwX2_addLeg_3 ++ dktX2_addLeg_4
def dkwX2_addLeg_2 : List UInt8 := [29, 4, 96, 29, 17, 2, 88, 96, 17, 23, 111, 184, 0, 79, 184, 0, 59, 154, 0, 5, 2, 172, 42, 2]
abbrev dktX2_addLeg_2 : List UInt8 := dkwX2_addLeg_2 ++ dktX2_addLeg_3
def dkwX2_addLeg_1 : List UInt8 := [3, 17, 23, 111, 184, 0, 59, 153, 0, 7, 4, 167, 0, 4, 3, 54, 5, 21, 5, 153, 0, 25, 21, 4]
abbrev dktX2_addLeg_1 : List UInt8 := dkwX2_addLeg_1 ++ dktX2_addLeg_2
def dkwX2_addLeg_0 : List UInt8 := [27, 3, 8, 184, 0, 59, 153, 0, 32, 28, 3, 8, 184, 0, 59, 153, 0, 23, 27, 28, 159, 0, 18, 29]
abbrev dktX2_addLeg_0 : List UInt8 := dkwX2_addLeg_0 ++ dktX2_addLeg_1
theorem dksX2_addLeg_0 : cX2_addLeg.data.toList.drop 0 = dktX2_addLeg_0 := by decide +kernel
theorem dksX2_addLeg_1 : cX2_addLeg.data.toList.drop 24 = dktX2_addLeg_1 := dk_seg dksX2_addLeg_0 24 rfl rfl
theorem dksX2_addLeg_2 : cX2_addLeg.data.toList.drop 48 = dktX2_addLeg_2 := dk_seg dksX2_addLeg_1 24 rfl rfl
theorem dksX2_addLeg_3 : cX2_addLeg.data.toList.drop 72 = dktX2_addLeg_3 := dk_seg dksX2_addLeg_2 24 rfl rfl
theorem dksX2_addLeg_4 : cX2_addLeg.data.toList.drop 95 = dktX2_addLeg_4 := dk_seg dksX2_addLeg_3 23 rfl rfl
theorem dksX2_addLeg_5 : cX2_addLeg.data.toList.drop 119 = dktX2_addLeg_5 := dk_seg dksX2_addLeg_4 24 rfl rfl
theorem dksX2_addLeg_6 : cX2_addLeg.data.toList.drop 143 = dktX2_addLeg_6 := dk_seg dksX2_addLeg_5 24 rfl rfl
theorem dksX2_addLeg_7 : cX2_addLeg.data.toList.drop 167 = dktX2_addLeg_7 := dk_seg dksX2_addLeg_6 24 rfl rfl
theorem dX2_addLeg_0 : decode cX2_addLeg 0 = .ok (.iload_n 1, 1) := dk_27 (dk_at dksX2_addLeg_0 0 rfl rfl)
theorem dX2_addLeg_1 : decode cX2_addLeg 1 = .ok (.iconst 0, 1) := dk_3 (dk_at dksX2_addLeg_0 1 rfl rfl)
theorem dX2_addLeg_2 : decode cX2_addLeg 2 = .ok (.iconst 5, 1) := dk_8 (dk_at dksX2_addLeg_0 2 rfl rfl)
theorem dX2_addLeg_3 : decode cX2_addLeg 3 = .ok (.invokestatic 59, 3) := dk_184 0 59 (dk_at dksX2_addLeg_0 3 rfl rfl)
theorem dX2_addLeg_6 : decode cX2_addLeg 6 = .ok (.ifCond .eq 32, 3) := dk_153 0 32 (dk_at dksX2_addLeg_0 6 rfl rfl)
theorem dX2_addLeg_9 : decode cX2_addLeg 9 = .ok (.iload_n 2, 1) := dk_28 (dk_at dksX2_addLeg_0 9 rfl rfl)
theorem dX2_addLeg_10 : decode cX2_addLeg 10 = .ok (.iconst 0, 1) := dk_3 (dk_at dksX2_addLeg_0 10 rfl rfl)
theorem dX2_addLeg_11 : decode cX2_addLeg 11 = .ok (.iconst 5, 1) := dk_8 (dk_at dksX2_addLeg_0 11 rfl rfl)
theorem dX2_addLeg_12 : decode cX2_addLeg 12 = .ok (.invokestatic 59, 3) := dk_184 0 59 (dk_at dksX2_addLeg_0 12 rfl rfl)
theorem dX2_addLeg_15 : decode cX2_addLeg 15 = .ok (.ifCond .eq 23, 3) := dk_153 0 23 (dk_at dksX2_addLeg_0 15 rfl rfl)
theorem dX2_addLeg_18 : decode cX2_addLeg 18 = .ok (.iload_n 1, 1) := dk_27 (dk_at dksX2_addLeg_0 18 rfl rfl)
theorem dX2_addLeg_19 : decode cX2_addLeg 19 = .ok (.iload_n 2, 1) := dk_28 (dk_at dksX2_addLeg_0 19 rfl rfl)
theorem dX2_addLeg_20 : decode cX2_addLeg 20 = .ok (.if_icmp .eq 18, 3) := dk_159 0 18 (dk_at dksX2_addLeg_0 20 rfl rfl)
theorem dX2_addLeg_23 : decode cX2_addLeg 23 = .ok (.iload_n 3, 1) := dk_29 (dk_at dksX2_addLeg_0 23 rfl rfl)
theorem dX2_addLeg_24 : decode cX2_addLeg 24 = .ok (.iconst 0, 1) := dk_3 (dk_at dksX2_addLeg_1 0 rfl rfl)
theorem dX2_addLeg_25 : decode cX2_addLeg 25 = .ok (.sipush 5999, 3) := dk_17 23 111 (dk_at dksX2_addLeg_1 1 rfl rfl)
theorem dX2_addLeg_28 : decode cX2_addLeg 28 = .ok (.invokestatic 59, 3) := dk_184 0 59 (dk_at dksX2_addLeg_1 4 rfl rfl)
theorem dX2_addLeg_31 : decode cX2_addLeg 31 = .ok (.ifCond .eq 7, 3) := dk_153 0 7 (dk_at dksX2_addLeg_1 7 rfl rfl)
theorem dX2_addLeg_34 : decode cX2_addLeg 34 = .ok (.iconst 1, 1) := dk_4 (dk_at dksX2_addLeg_1 10 rfl rfl)
theorem dX2_addLeg_35 : decode cX2_addLeg 35 = .ok (.goto 4, 3) := dk_167 0 4 (dk_at dksX2_addLeg_1 11 rfl rfl)
theorem dX2_addLeg_38 : decode cX2_addLeg 38 = .ok (.iconst 0, 1) := dk_3 (dk_at dksX2_addLeg_1 14 rfl rfl)
theorem dX2_addLeg_39 : decode cX2_addLeg 39 = .ok (.istore 5, 2) := dk_54 5 (dk_at dksX2_addLeg_1 15 rfl rfl)
theorem dX2_addLeg_41 : decode cX2_addLeg 41 = .ok (.iload 5, 2) := dk_21 5 (dk_at dksX2_addLeg_1 17 rfl rfl)
theorem dX2_addLeg_43 : decode cX2_addLeg 43 = .ok (.ifCond .eq 25, 3) := dk_153 0 25 (dk_at dksX2_addLeg_1 19 rfl rfl)
theorem dX2_addLeg_46 : decode cX2_addLeg 46 = .ok (.iload 4, 2) := dk_21 4 (dk_at dksX2_addLeg_1 22 rfl rfl)
theorem dX2_addLeg_48 : decode cX2_addLeg 48 = .ok (.iload_n 3, 1) := dk_29 (dk_at dksX2_addLeg_2 0 rfl rfl)
theorem dX2_addLeg_49 : decode cX2_addLeg 49 = .ok (.iconst 1, 1) := dk_4 (dk_at dksX2_addLeg_2 1 rfl rfl)
theorem dX2_addLeg_50 : decode cX2_addLeg 50 = .ok (.iadd, 1) := dk_96 (dk_at dksX2_addLeg_2 2 rfl rfl)
theorem dX2_addLeg_51 : decode cX2_addLeg 51 = .ok (.iload_n 3, 1) := dk_29 (dk_at dksX2_addLeg_2 3 rfl rfl)
theorem dX2_addLeg_52 : decode cX2_addLeg 52 = .ok (.sipush 600, 3) := dk_17 2 88 (dk_at dksX2_addLeg_2 4 rfl rfl)
theorem dX2_addLeg_55 : decode cX2_addLeg 55 = .ok (.iadd, 1) := dk_96 (dk_at dksX2_addLeg_2 7 rfl rfl)
theorem dX2_addLeg_56 : decode cX2_addLeg 56 = .ok (.sipush 5999, 3) := dk_17 23 111 (dk_at dksX2_addLeg_2 8 rfl rfl)
theorem dX2_addLeg_59 : decode cX2_addLeg 59 = .ok (.invokestatic 79, 3) := dk_184 0 79 (dk_at dksX2_addLeg_2 11 rfl rfl)
theorem dX2_addLeg_62 : decode cX2_addLeg 62 = .ok (.invokestatic 59, 3) := dk_184 0 59 (dk_at dksX2_addLeg_2 14 rfl rfl)
theorem dX2_addLeg_65 : decode cX2_addLeg 65 = .ok (.ifCond .ne 5, 3) := dk_154 0 5 (dk_at dksX2_addLeg_2 17 rfl rfl)
theorem dX2_addLeg_68 : decode cX2_addLeg 68 = .ok (.iconst (-1), 1) := dk_2 (dk_at dksX2_addLeg_2 20 rfl rfl)
theorem dX2_addLeg_69 : decode cX2_addLeg 69 = .ok (.ireturn, 1) := dk_172 (dk_at dksX2_addLeg_2 21 rfl rfl)
theorem dX2_addLeg_70 : decode cX2_addLeg 70 = .ok (.aload_n 0, 1) := dk_42 (dk_at dksX2_addLeg_2 22 rfl rfl)
theorem dX2_addLeg_71 : decode cX2_addLeg 71 = .ok (.iconst (-1), 1) := dk_2 (dk_at dksX2_addLeg_2 23 rfl rfl)
theorem dX2_addLeg_72 : decode cX2_addLeg 72 = .ok (.iload_n 1, 1) := dk_27 (dk_at dksX2_addLeg_3 0 rfl rfl)
theorem dX2_addLeg_73 : decode cX2_addLeg 73 = .ok (.iload_n 2, 1) := dk_28 (dk_at dksX2_addLeg_3 1 rfl rfl)
theorem dX2_addLeg_74 : decode cX2_addLeg 74 = .ok (.iload_n 3, 1) := dk_29 (dk_at dksX2_addLeg_3 2 rfl rfl)
theorem dX2_addLeg_75 : decode cX2_addLeg 75 = .ok (.invokevirtual 84, 3) := dk_182 0 84 (dk_at dksX2_addLeg_3 3 rfl rfl)
theorem dX2_addLeg_78 : decode cX2_addLeg 78 = .ok (.ifCond .eq 6, 3) := dk_153 0 6 (dk_at dksX2_addLeg_3 6 rfl rfl)
theorem dX2_addLeg_81 : decode cX2_addLeg 81 = .ok (.bipush (-4), 2) := dk_16 252 (dk_at dksX2_addLeg_3 9 rfl rfl)
theorem dX2_addLeg_83 : decode cX2_addLeg 83 = .ok (.ireturn, 1) := dk_172 (dk_at dksX2_addLeg_3 11 rfl rfl)
theorem dX2_addLeg_84 : decode cX2_addLeg 84 = .ok (.aload_n 0, 1) := dk_42 (dk_at dksX2_addLeg_3 12 rfl rfl)
theorem dX2_addLeg_85 : decode cX2_addLeg 85 = .ok (.getfield 9, 3) := dk_180 0 9 (dk_at dksX2_addLeg_3 13 rfl rfl)
theorem dX2_addLeg_88 : decode cX2_addLeg 88 = .ok (.iconst 0, 1) := dk_3 (dk_at dksX2_addLeg_3 16 rfl rfl)
theorem dX2_addLeg_89 : decode cX2_addLeg 89 = .ok (.iaload, 1) := dk_46 (dk_at dksX2_addLeg_3 17 rfl rfl)
theorem dX2_addLeg_90 : decode cX2_addLeg 90 = .ok (.bipush 24, 2) := dk_16 24 (dk_at dksX2_addLeg_3 18 rfl rfl)
theorem dX2_addLeg_92 : decode cX2_addLeg 92 = .ok (.if_icmp .ne 6, 3) := dk_160 0 6 (dk_at dksX2_addLeg_3 20 rfl rfl)
theorem dX2_addLeg_95 : decode cX2_addLeg 95 = .ok (.bipush (-3), 2) := dk_16 253 (dk_at dksX2_addLeg_4 0 rfl rfl)
theorem dX2_addLeg_97 : decode cX2_addLeg 97 = .ok (.ireturn, 1) := dk_172 (dk_at dksX2_addLeg_4 2 rfl rfl)
theorem dX2_addLeg_98 : decode cX2_addLeg 98 = .ok (.aload_n 0, 1) := dk_42 (dk_at dksX2_addLeg_4 3 rfl rfl)
theorem dX2_addLeg_99 : decode cX2_addLeg 99 = .ok (.invokevirtual 88, 3) := dk_182 0 88 (dk_at dksX2_addLeg_4 4 rfl rfl)
theorem dX2_addLeg_102 : decode cX2_addLeg 102 = .ok (.bipush 10, 2) := dk_16 10 (dk_at dksX2_addLeg_4 7 rfl rfl)
theorem dX2_addLeg_104 : decode cX2_addLeg 104 = .ok (.iconst 5, 1) := dk_8 (dk_at dksX2_addLeg_4 9 rfl rfl)
theorem dX2_addLeg_105 : decode cX2_addLeg 105 = .ok (.aload_n 0, 1) := dk_42 (dk_at dksX2_addLeg_4 10 rfl rfl)
theorem dX2_addLeg_106 : decode cX2_addLeg 106 = .ok (.getfield 9, 3) := dk_180 0 9 (dk_at dksX2_addLeg_4 11 rfl rfl)
theorem dX2_addLeg_109 : decode cX2_addLeg 109 = .ok (.iconst 0, 1) := dk_3 (dk_at dksX2_addLeg_4 14 rfl rfl)
theorem dX2_addLeg_110 : decode cX2_addLeg 110 = .ok (.iaload, 1) := dk_46 (dk_at dksX2_addLeg_4 15 rfl rfl)
theorem dX2_addLeg_111 : decode cX2_addLeg 111 = .ok (.imul, 1) := dk_104 (dk_at dksX2_addLeg_4 16 rfl rfl)
theorem dX2_addLeg_112 : decode cX2_addLeg 112 = .ok (.iadd, 1) := dk_96 (dk_at dksX2_addLeg_4 17 rfl rfl)
theorem dX2_addLeg_113 : decode cX2_addLeg 113 = .ok (.istore 6, 2) := dk_54 6 (dk_at dksX2_addLeg_4 18 rfl rfl)
theorem dX2_addLeg_115 : decode cX2_addLeg 115 = .ok (.aload_n 0, 1) := dk_42 (dk_at dksX2_addLeg_4 20 rfl rfl)
theorem dX2_addLeg_116 : decode cX2_addLeg 116 = .ok (.getfield 9, 3) := dk_180 0 9 (dk_at dksX2_addLeg_4 21 rfl rfl)
theorem dX2_addLeg_119 : decode cX2_addLeg 119 = .ok (.iload 6, 2) := dk_21 6 (dk_at dksX2_addLeg_5 0 rfl rfl)
theorem dX2_addLeg_121 : decode cX2_addLeg 121 = .ok (.iconst 0, 1) := dk_3 (dk_at dksX2_addLeg_5 2 rfl rfl)
theorem dX2_addLeg_122 : decode cX2_addLeg 122 = .ok (.iadd, 1) := dk_96 (dk_at dksX2_addLeg_5 3 rfl rfl)
theorem dX2_addLeg_123 : decode cX2_addLeg 123 = .ok (.iload_n 1, 1) := dk_27 (dk_at dksX2_addLeg_5 4 rfl rfl)
theorem dX2_addLeg_124 : decode cX2_addLeg 124 = .ok (.iastore, 1) := dk_79 (dk_at dksX2_addLeg_5 5 rfl rfl)
theorem dX2_addLeg_125 : decode cX2_addLeg 125 = .ok (.aload_n 0, 1) := dk_42 (dk_at dksX2_addLeg_5 6 rfl rfl)
theorem dX2_addLeg_126 : decode cX2_addLeg 126 = .ok (.getfield 9, 3) := dk_180 0 9 (dk_at dksX2_addLeg_5 7 rfl rfl)
theorem dX2_addLeg_129 : decode cX2_addLeg 129 = .ok (.iload 6, 2) := dk_21 6 (dk_at dksX2_addLeg_5 10 rfl rfl)
theorem dX2_addLeg_131 : decode cX2_addLeg 131 = .ok (.iconst 1, 1) := dk_4 (dk_at dksX2_addLeg_5 12 rfl rfl)
theorem dX2_addLeg_132 : decode cX2_addLeg 132 = .ok (.iadd, 1) := dk_96 (dk_at dksX2_addLeg_5 13 rfl rfl)
theorem dX2_addLeg_133 : decode cX2_addLeg 133 = .ok (.iload_n 2, 1) := dk_28 (dk_at dksX2_addLeg_5 14 rfl rfl)
theorem dX2_addLeg_134 : decode cX2_addLeg 134 = .ok (.iastore, 1) := dk_79 (dk_at dksX2_addLeg_5 15 rfl rfl)
theorem dX2_addLeg_135 : decode cX2_addLeg 135 = .ok (.aload_n 0, 1) := dk_42 (dk_at dksX2_addLeg_5 16 rfl rfl)
theorem dX2_addLeg_136 : decode cX2_addLeg 136 = .ok (.getfield 9, 3) := dk_180 0 9 (dk_at dksX2_addLeg_5 17 rfl rfl)
theorem dX2_addLeg_139 : decode cX2_addLeg 139 = .ok (.iload 6, 2) := dk_21 6 (dk_at dksX2_addLeg_5 20 rfl rfl)
theorem dX2_addLeg_141 : decode cX2_addLeg 141 = .ok (.iconst 2, 1) := dk_5 (dk_at dksX2_addLeg_5 22 rfl rfl)
theorem dX2_addLeg_142 : decode cX2_addLeg 142 = .ok (.iadd, 1) := dk_96 (dk_at dksX2_addLeg_5 23 rfl rfl)
theorem dX2_addLeg_143 : decode cX2_addLeg 143 = .ok (.iload_n 3, 1) := dk_29 (dk_at dksX2_addLeg_6 0 rfl rfl)
theorem dX2_addLeg_144 : decode cX2_addLeg 144 = .ok (.iastore, 1) := dk_79 (dk_at dksX2_addLeg_6 1 rfl rfl)
theorem dX2_addLeg_145 : decode cX2_addLeg 145 = .ok (.aload_n 0, 1) := dk_42 (dk_at dksX2_addLeg_6 2 rfl rfl)
theorem dX2_addLeg_146 : decode cX2_addLeg 146 = .ok (.getfield 9, 3) := dk_180 0 9 (dk_at dksX2_addLeg_6 3 rfl rfl)
theorem dX2_addLeg_149 : decode cX2_addLeg 149 = .ok (.iload 6, 2) := dk_21 6 (dk_at dksX2_addLeg_6 6 rfl rfl)
theorem dX2_addLeg_151 : decode cX2_addLeg 151 = .ok (.iconst 3, 1) := dk_6 (dk_at dksX2_addLeg_6 8 rfl rfl)
theorem dX2_addLeg_152 : decode cX2_addLeg 152 = .ok (.iadd, 1) := dk_96 (dk_at dksX2_addLeg_6 9 rfl rfl)
theorem dX2_addLeg_153 : decode cX2_addLeg 153 = .ok (.iload 4, 2) := dk_21 4 (dk_at dksX2_addLeg_6 10 rfl rfl)
theorem dX2_addLeg_155 : decode cX2_addLeg 155 = .ok (.iastore, 1) := dk_79 (dk_at dksX2_addLeg_6 12 rfl rfl)
theorem dX2_addLeg_156 : decode cX2_addLeg 156 = .ok (.aload_n 0, 1) := dk_42 (dk_at dksX2_addLeg_6 13 rfl rfl)
theorem dX2_addLeg_157 : decode cX2_addLeg 157 = .ok (.getfield 9, 3) := dk_180 0 9 (dk_at dksX2_addLeg_6 14 rfl rfl)
theorem dX2_addLeg_160 : decode cX2_addLeg 160 = .ok (.iload 6, 2) := dk_21 6 (dk_at dksX2_addLeg_6 17 rfl rfl)
theorem dX2_addLeg_162 : decode cX2_addLeg 162 = .ok (.iconst 4, 1) := dk_7 (dk_at dksX2_addLeg_6 19 rfl rfl)
theorem dX2_addLeg_163 : decode cX2_addLeg 163 = .ok (.iadd, 1) := dk_96 (dk_at dksX2_addLeg_6 20 rfl rfl)
theorem dX2_addLeg_164 : decode cX2_addLeg 164 = .ok (.iconst 0, 1) := dk_3 (dk_at dksX2_addLeg_6 21 rfl rfl)
theorem dX2_addLeg_165 : decode cX2_addLeg 165 = .ok (.iastore, 1) := dk_79 (dk_at dksX2_addLeg_6 22 rfl rfl)
theorem dX2_addLeg_166 : decode cX2_addLeg 166 = .ok (.aload_n 0, 1) := dk_42 (dk_at dksX2_addLeg_6 23 rfl rfl)
theorem dX2_addLeg_167 : decode cX2_addLeg 167 = .ok (.getfield 9, 3) := dk_180 0 9 (dk_at dksX2_addLeg_7 0 rfl rfl)
theorem dX2_addLeg_170 : decode cX2_addLeg 170 = .ok (.iconst 0, 1) := dk_3 (dk_at dksX2_addLeg_7 3 rfl rfl)
theorem dX2_addLeg_171 : decode cX2_addLeg 171 = .ok (.dup2, 1) := dk_92 (dk_at dksX2_addLeg_7 4 rfl rfl)
theorem dX2_addLeg_172 : decode cX2_addLeg 172 = .ok (.iaload, 1) := dk_46 (dk_at dksX2_addLeg_7 5 rfl rfl)
theorem dX2_addLeg_173 : decode cX2_addLeg 173 = .ok (.iconst 1, 1) := dk_4 (dk_at dksX2_addLeg_7 6 rfl rfl)
theorem dX2_addLeg_174 : decode cX2_addLeg 174 = .ok (.iadd, 1) := dk_96 (dk_at dksX2_addLeg_7 7 rfl rfl)
theorem dX2_addLeg_175 : decode cX2_addLeg 175 = .ok (.iastore, 1) := dk_79 (dk_at dksX2_addLeg_7 8 rfl rfl)
theorem dX2_addLeg_176 : decode cX2_addLeg 176 = .ok (.aload_n 0, 1) := dk_42 (dk_at dksX2_addLeg_7 9 rfl rfl)
theorem dX2_addLeg_177 : decode cX2_addLeg 177 = .ok (.getfield 9, 3) := dk_180 0 9 (dk_at dksX2_addLeg_7 10 rfl rfl)
theorem dX2_addLeg_180 : decode cX2_addLeg 180 = .ok (.iconst 0, 1) := dk_3 (dk_at dksX2_addLeg_7 13 rfl rfl)
theorem dX2_addLeg_181 : decode cX2_addLeg 181 = .ok (.iaload, 1) := dk_46 (dk_at dksX2_addLeg_7 14 rfl rfl)
theorem dX2_addLeg_182 : decode cX2_addLeg 182 = .ok (.iconst 1, 1) := dk_4 (dk_at dksX2_addLeg_7 15 rfl rfl)
theorem dX2_addLeg_183 : decode cX2_addLeg 183 = .ok (.isub, 1) := dk_100 (dk_at dksX2_addLeg_7 16 rfl rfl)
theorem dX2_addLeg_184 : decode cX2_addLeg 184 = .ok (.ireturn, 1) := dk_172 (dk_at dksX2_addLeg_7 17 rfl rfl)
abbrev cX2_in : ByteArray := prog_12_method_2_code
def yX2_in : MethodName := ⟨RX2, "in", "(III)Z"⟩
def dkwX2_in_0 : List UInt8 := [26, 27, 161, 0, 12, 26, 28, 163, 0, 7, 4, 167, 0, 4, 3, 172]
abbrev dktX2_in_0 : List UInt8 := dkwX2_in_0 ++ []
theorem dksX2_in_0 : cX2_in.data.toList.drop 0 = dktX2_in_0 := by decide +kernel
theorem dX2_in_0 : decode cX2_in 0 = .ok (.iload_n 0, 1) := dk_26 (dk_at dksX2_in_0 0 rfl rfl)
theorem dX2_in_1 : decode cX2_in 1 = .ok (.iload_n 1, 1) := dk_27 (dk_at dksX2_in_0 1 rfl rfl)
theorem dX2_in_2 : decode cX2_in 2 = .ok (.if_icmp .lt 12, 3) := dk_161 0 12 (dk_at dksX2_in_0 2 rfl rfl)
theorem dX2_in_5 : decode cX2_in 5 = .ok (.iload_n 0, 1) := dk_26 (dk_at dksX2_in_0 5 rfl rfl)
theorem dX2_in_6 : decode cX2_in 6 = .ok (.iload_n 2, 1) := dk_28 (dk_at dksX2_in_0 6 rfl rfl)
theorem dX2_in_7 : decode cX2_in 7 = .ok (.if_icmp .gt 7, 3) := dk_163 0 7 (dk_at dksX2_in_0 7 rfl rfl)
theorem dX2_in_10 : decode cX2_in 10 = .ok (.iconst 1, 1) := dk_4 (dk_at dksX2_in_0 10 rfl rfl)
theorem dX2_in_11 : decode cX2_in 11 = .ok (.goto 4, 3) := dk_167 0 4 (dk_at dksX2_in_0 11 rfl rfl)
theorem dX2_in_14 : decode cX2_in 14 = .ok (.iconst 0, 1) := dk_3 (dk_at dksX2_in_0 14 rfl rfl)
theorem dX2_in_15 : decode cX2_in 15 = .ok (.ireturn, 1) := dk_172 (dk_at dksX2_in_0 15 rfl rfl)
abbrev cX2_isThere : ByteArray := prog_12_method_11_code
def yX2_isThere : MethodName := ⟨RX2, "isThere", "(IIII)Z"⟩
def dkwX2_isThere_3 : List UInt8 := [132, 6, 1, 167, 255, 190, 21, 5, 172]
abbrev dktX2_isThere_3 : List UInt8 := dkwX2_isThere_3 ++ []
def dkwX2_isThere_2 : List UInt8 := [160, 0, 19, 42, 21, 6, 5, 182, 0, 63, 21, 4, 160, 0, 7, 4, 167, 0, 4, 3, 54, 5]
abbrev dktX2_isThere_2 : List UInt8 := dkwX2_isThere_2 ++ dktX2_isThere_3
def dkwX2_isThere_1 : List UInt8 := [27, 159, 0, 41, 42, 21, 6, 3, 182, 0, 63, 28, 160, 0, 30, 42, 21, 6, 4, 182, 0, 63, 29]
abbrev dktX2_isThere_1 : List UInt8 := dkwX2_isThere_1 ++ dktX2_isThere_2
def dkwX2_isThere_0 : List UInt8 := [3, 54, 5, 3, 54, 6, 21, 6, 42, 180, 0, 9, 3, 46, 162, 0, 61, 21, 5, 154, 0, 43, 21, 6]
abbrev dktX2_isThere_0 : List UInt8 := dkwX2_isThere_0 ++ dktX2_isThere_1
theorem dksX2_isThere_0 : cX2_isThere.data.toList.drop 0 = dktX2_isThere_0 := by decide +kernel
theorem dksX2_isThere_1 : cX2_isThere.data.toList.drop 24 = dktX2_isThere_1 := dk_seg dksX2_isThere_0 24 rfl rfl
theorem dksX2_isThere_2 : cX2_isThere.data.toList.drop 47 = dktX2_isThere_2 := dk_seg dksX2_isThere_1 23 rfl rfl
theorem dksX2_isThere_3 : cX2_isThere.data.toList.drop 69 = dktX2_isThere_3 := dk_seg dksX2_isThere_2 22 rfl rfl
theorem dX2_isThere_0 : decode cX2_isThere 0 = .ok (.iconst 0, 1) := dk_3 (dk_at dksX2_isThere_0 0 rfl rfl)
theorem dX2_isThere_1 : decode cX2_isThere 1 = .ok (.istore 5, 2) := dk_54 5 (dk_at dksX2_isThere_0 1 rfl rfl)
theorem dX2_isThere_3 : decode cX2_isThere 3 = .ok (.iconst 0, 1) := dk_3 (dk_at dksX2_isThere_0 3 rfl rfl)
theorem dX2_isThere_4 : decode cX2_isThere 4 = .ok (.istore 6, 2) := dk_54 6 (dk_at dksX2_isThere_0 4 rfl rfl)
theorem dX2_isThere_6 : decode cX2_isThere 6 = .ok (.iload 6, 2) := dk_21 6 (dk_at dksX2_isThere_0 6 rfl rfl)
theorem dX2_isThere_8 : decode cX2_isThere 8 = .ok (.aload_n 0, 1) := dk_42 (dk_at dksX2_isThere_0 8 rfl rfl)
theorem dX2_isThere_9 : decode cX2_isThere 9 = .ok (.getfield 9, 3) := dk_180 0 9 (dk_at dksX2_isThere_0 9 rfl rfl)
theorem dX2_isThere_12 : decode cX2_isThere 12 = .ok (.iconst 0, 1) := dk_3 (dk_at dksX2_isThere_0 12 rfl rfl)
theorem dX2_isThere_13 : decode cX2_isThere 13 = .ok (.iaload, 1) := dk_46 (dk_at dksX2_isThere_0 13 rfl rfl)
theorem dX2_isThere_14 : decode cX2_isThere 14 = .ok (.if_icmp .ge 61, 3) := dk_162 0 61 (dk_at dksX2_isThere_0 14 rfl rfl)
theorem dX2_isThere_17 : decode cX2_isThere 17 = .ok (.iload 5, 2) := dk_21 5 (dk_at dksX2_isThere_0 17 rfl rfl)
theorem dX2_isThere_19 : decode cX2_isThere 19 = .ok (.ifCond .ne 43, 3) := dk_154 0 43 (dk_at dksX2_isThere_0 19 rfl rfl)
theorem dX2_isThere_22 : decode cX2_isThere 22 = .ok (.iload 6, 2) := dk_21 6 (dk_at dksX2_isThere_0 22 rfl rfl)
theorem dX2_isThere_24 : decode cX2_isThere 24 = .ok (.iload_n 1, 1) := dk_27 (dk_at dksX2_isThere_1 0 rfl rfl)
theorem dX2_isThere_25 : decode cX2_isThere 25 = .ok (.if_icmp .eq 41, 3) := dk_159 0 41 (dk_at dksX2_isThere_1 1 rfl rfl)
theorem dX2_isThere_28 : decode cX2_isThere 28 = .ok (.aload_n 0, 1) := dk_42 (dk_at dksX2_isThere_1 4 rfl rfl)
theorem dX2_isThere_29 : decode cX2_isThere 29 = .ok (.iload 6, 2) := dk_21 6 (dk_at dksX2_isThere_1 5 rfl rfl)
theorem dX2_isThere_31 : decode cX2_isThere 31 = .ok (.iconst 0, 1) := dk_3 (dk_at dksX2_isThere_1 7 rfl rfl)
theorem dX2_isThere_32 : decode cX2_isThere 32 = .ok (.invokevirtual 63, 3) := dk_182 0 63 (dk_at dksX2_isThere_1 8 rfl rfl)
theorem dX2_isThere_35 : decode cX2_isThere 35 = .ok (.iload_n 2, 1) := dk_28 (dk_at dksX2_isThere_1 11 rfl rfl)
theorem dX2_isThere_36 : decode cX2_isThere 36 = .ok (.if_icmp .ne 30, 3) := dk_160 0 30 (dk_at dksX2_isThere_1 12 rfl rfl)
theorem dX2_isThere_39 : decode cX2_isThere 39 = .ok (.aload_n 0, 1) := dk_42 (dk_at dksX2_isThere_1 15 rfl rfl)
theorem dX2_isThere_40 : decode cX2_isThere 40 = .ok (.iload 6, 2) := dk_21 6 (dk_at dksX2_isThere_1 16 rfl rfl)
theorem dX2_isThere_42 : decode cX2_isThere 42 = .ok (.iconst 1, 1) := dk_4 (dk_at dksX2_isThere_1 18 rfl rfl)
theorem dX2_isThere_43 : decode cX2_isThere 43 = .ok (.invokevirtual 63, 3) := dk_182 0 63 (dk_at dksX2_isThere_1 19 rfl rfl)
theorem dX2_isThere_46 : decode cX2_isThere 46 = .ok (.iload_n 3, 1) := dk_29 (dk_at dksX2_isThere_1 22 rfl rfl)
theorem dX2_isThere_47 : decode cX2_isThere 47 = .ok (.if_icmp .ne 19, 3) := dk_160 0 19 (dk_at dksX2_isThere_2 0 rfl rfl)
theorem dX2_isThere_50 : decode cX2_isThere 50 = .ok (.aload_n 0, 1) := dk_42 (dk_at dksX2_isThere_2 3 rfl rfl)
theorem dX2_isThere_51 : decode cX2_isThere 51 = .ok (.iload 6, 2) := dk_21 6 (dk_at dksX2_isThere_2 4 rfl rfl)
theorem dX2_isThere_53 : decode cX2_isThere 53 = .ok (.iconst 2, 1) := dk_5 (dk_at dksX2_isThere_2 6 rfl rfl)
theorem dX2_isThere_54 : decode cX2_isThere 54 = .ok (.invokevirtual 63, 3) := dk_182 0 63 (dk_at dksX2_isThere_2 7 rfl rfl)
theorem dX2_isThere_57 : decode cX2_isThere 57 = .ok (.iload 4, 2) := dk_21 4 (dk_at dksX2_isThere_2 10 rfl rfl)
theorem dX2_isThere_59 : decode cX2_isThere 59 = .ok (.if_icmp .ne 7, 3) := dk_160 0 7 (dk_at dksX2_isThere_2 12 rfl rfl)
theorem dX2_isThere_62 : decode cX2_isThere 62 = .ok (.iconst 1, 1) := dk_4 (dk_at dksX2_isThere_2 15 rfl rfl)
theorem dX2_isThere_63 : decode cX2_isThere 63 = .ok (.goto 4, 3) := dk_167 0 4 (dk_at dksX2_isThere_2 16 rfl rfl)
theorem dX2_isThere_66 : decode cX2_isThere 66 = .ok (.iconst 0, 1) := dk_3 (dk_at dksX2_isThere_2 19 rfl rfl)
theorem dX2_isThere_67 : decode cX2_isThere 67 = .ok (.istore 5, 2) := dk_54 5 (dk_at dksX2_isThere_2 20 rfl rfl)
theorem dX2_isThere_69 : decode cX2_isThere 69 = .ok (.iinc 6 1, 3) := dk_132 6 1 (dk_at dksX2_isThere_3 0 rfl rfl)
theorem dX2_isThere_72 : decode cX2_isThere 72 = .ok (.goto (-66), 3) := dk_167 255 190 (dk_at dksX2_isThere_3 3 rfl rfl)
theorem dX2_isThere_75 : decode cX2_isThere 75 = .ok (.iload 5, 2) := dk_21 5 (dk_at dksX2_isThere_3 6 rfl rfl)
theorem dX2_isThere_77 : decode cX2_isThere 77 = .ok (.ireturn, 1) := dk_172 (dk_at dksX2_isThere_3 8 rfl rfl)
abbrev cX2_of : ByteArray := prog_12_method_5_code
def yX2_of : MethodName := ⟨RX2, "of", "(II)I"⟩
def dkwX2_of_0 : List UInt8 := [42, 180, 0, 9, 16, 10, 8, 27, 104, 96, 28, 96, 46, 172]
abbrev dktX2_of_0 : List UInt8 := dkwX2_of_0 ++ []
theorem dksX2_of_0 : cX2_of.data.toList.drop 0 = dktX2_of_0 := by decide +kernel
theorem dX2_of_0 : decode cX2_of 0 = .ok (.aload_n 0, 1) := dk_42 (dk_at dksX2_of_0 0 rfl rfl)
theorem dX2_of_1 : decode cX2_of 1 = .ok (.getfield 9, 3) := dk_180 0 9 (dk_at dksX2_of_0 1 rfl rfl)
theorem dX2_of_4 : decode cX2_of 4 = .ok (.bipush 10, 2) := dk_16 10 (dk_at dksX2_of_0 4 rfl rfl)
theorem dX2_of_6 : decode cX2_of 6 = .ok (.iconst 5, 1) := dk_8 (dk_at dksX2_of_0 6 rfl rfl)
theorem dX2_of_7 : decode cX2_of 7 = .ok (.iload_n 1, 1) := dk_27 (dk_at dksX2_of_0 7 rfl rfl)
theorem dX2_of_8 : decode cX2_of 8 = .ok (.imul, 1) := dk_104 (dk_at dksX2_of_0 8 rfl rfl)
theorem dX2_of_9 : decode cX2_of 9 = .ok (.iadd, 1) := dk_96 (dk_at dksX2_of_0 9 rfl rfl)
theorem dX2_of_10 : decode cX2_of 10 = .ok (.iload_n 2, 1) := dk_28 (dk_at dksX2_of_0 10 rfl rfl)
theorem dX2_of_11 : decode cX2_of 11 = .ok (.iadd, 1) := dk_96 (dk_at dksX2_of_0 11 rfl rfl)
theorem dX2_of_12 : decode cX2_of 12 = .ok (.iaload, 1) := dk_46 (dk_at dksX2_of_0 12 rfl rfl)
theorem dX2_of_13 : decode cX2_of 13 = .ok (.ireturn, 1) := dk_172 (dk_at dksX2_of_0 13 rfl rfl)
abbrev cX2_change : ByteArray := prog_12_method_10_code
def yX2_change : MethodName := ⟨RX2, "change", "()V"⟩
def dkwX2_change_0 : List UInt8 := [42, 180, 0, 71, 154, 0, 11, 42, 42, 180, 0, 9, 182, 0, 75, 177]
abbrev dktX2_change_0 : List UInt8 := dkwX2_change_0 ++ []
theorem dksX2_change_0 : cX2_change.data.toList.drop 0 = dktX2_change_0 := by decide +kernel
theorem dX2_change_0 : decode cX2_change 0 = .ok (.aload_n 0, 1) := dk_42 (dk_at dksX2_change_0 0 rfl rfl)
theorem dX2_change_1 : decode cX2_change 1 = .ok (.getfield 71, 3) := dk_180 0 71 (dk_at dksX2_change_0 1 rfl rfl)
theorem dX2_change_4 : decode cX2_change 4 = .ok (.ifCond .ne 11, 3) := dk_154 0 11 (dk_at dksX2_change_0 4 rfl rfl)
theorem dX2_change_7 : decode cX2_change 7 = .ok (.aload_n 0, 1) := dk_42 (dk_at dksX2_change_0 7 rfl rfl)
theorem dX2_change_8 : decode cX2_change 8 = .ok (.aload_n 0, 1) := dk_42 (dk_at dksX2_change_0 8 rfl rfl)
theorem dX2_change_9 : decode cX2_change 9 = .ok (.getfield 9, 3) := dk_180 0 9 (dk_at dksX2_change_0 9 rfl rfl)
theorem dX2_change_12 : decode cX2_change 12 = .ok (.invokevirtual 75, 3) := dk_182 0 75 (dk_at dksX2_change_0 12 rfl rfl)
theorem dX2_change_15 : decode cX2_change 15 = .ok (.return_, 1) := dk_177 (dk_at dksX2_change_0 15 rfl rfl)
abbrev cX2_push : ByteArray := prog_12_method_9_code
def yX2_push : MethodName := ⟨RX2, "push", "([I)V"⟩
def dkwX2_push_2 : List UInt8 := [180, 0, 67, 104, 17, 1, 42, 184, 0, 53, 42, 89, 180, 0, 67, 4, 96, 181, 0, 67, 177]
abbrev dktX2_push_2 : List UInt8 := dkwX2_push_2 ++ []
def dkwX2_push_1 : List UInt8 := [184, 0, 53, 42, 89, 180, 0, 67, 4, 100, 181, 0, 67, 43, 3, 42, 180, 0, 16, 17, 1, 42, 42]
abbrev dktX2_push_1 : List UInt8 := dkwX2_push_1 ++ dktX2_push_2
def dkwX2_push_0 : List UInt8 := [42, 180, 0, 67, 16, 8, 160, 0, 31, 42, 180, 0, 16, 17, 1, 42, 42, 180, 0, 16, 3, 17, 8, 38]
abbrev dktX2_push_0 : List UInt8 := dkwX2_push_0 ++ dktX2_push_1
theorem dksX2_push_0 : cX2_push.data.toList.drop 0 = dktX2_push_0 := by decide +kernel
theorem dksX2_push_1 : cX2_push.data.toList.drop 24 = dktX2_push_1 := dk_seg dksX2_push_0 24 rfl rfl
theorem dksX2_push_2 : cX2_push.data.toList.drop 47 = dktX2_push_2 := dk_seg dksX2_push_1 23 rfl rfl
theorem dX2_push_0 : decode cX2_push 0 = .ok (.aload_n 0, 1) := dk_42 (dk_at dksX2_push_0 0 rfl rfl)
theorem dX2_push_1 : decode cX2_push 1 = .ok (.getfield 67, 3) := dk_180 0 67 (dk_at dksX2_push_0 1 rfl rfl)
theorem dX2_push_4 : decode cX2_push 4 = .ok (.bipush 8, 2) := dk_16 8 (dk_at dksX2_push_0 4 rfl rfl)
theorem dX2_push_6 : decode cX2_push 6 = .ok (.if_icmp .ne 31, 3) := dk_160 0 31 (dk_at dksX2_push_0 6 rfl rfl)
theorem dX2_push_9 : decode cX2_push 9 = .ok (.aload_n 0, 1) := dk_42 (dk_at dksX2_push_0 9 rfl rfl)
theorem dX2_push_10 : decode cX2_push 10 = .ok (.getfield 16, 3) := dk_180 0 16 (dk_at dksX2_push_0 10 rfl rfl)
theorem dX2_push_13 : decode cX2_push 13 = .ok (.sipush 298, 3) := dk_17 1 42 (dk_at dksX2_push_0 13 rfl rfl)
theorem dX2_push_16 : decode cX2_push 16 = .ok (.aload_n 0, 1) := dk_42 (dk_at dksX2_push_0 16 rfl rfl)
theorem dX2_push_17 : decode cX2_push 17 = .ok (.getfield 16, 3) := dk_180 0 16 (dk_at dksX2_push_0 17 rfl rfl)
theorem dX2_push_20 : decode cX2_push 20 = .ok (.iconst 0, 1) := dk_3 (dk_at dksX2_push_0 20 rfl rfl)
theorem dX2_push_21 : decode cX2_push 21 = .ok (.sipush 2086, 3) := dk_17 8 38 (dk_at dksX2_push_0 21 rfl rfl)
theorem dX2_push_24 : decode cX2_push 24 = .ok (.invokestatic 53, 3) := dk_184 0 53 (dk_at dksX2_push_1 0 rfl rfl)
theorem dX2_push_27 : decode cX2_push 27 = .ok (.aload_n 0, 1) := dk_42 (dk_at dksX2_push_1 3 rfl rfl)
theorem dX2_push_28 : decode cX2_push 28 = .ok (.dup, 1) := dk_89 (dk_at dksX2_push_1 4 rfl rfl)
theorem dX2_push_29 : decode cX2_push 29 = .ok (.getfield 67, 3) := dk_180 0 67 (dk_at dksX2_push_1 5 rfl rfl)
theorem dX2_push_32 : decode cX2_push 32 = .ok (.iconst 1, 1) := dk_4 (dk_at dksX2_push_1 8 rfl rfl)
theorem dX2_push_33 : decode cX2_push 33 = .ok (.isub, 1) := dk_100 (dk_at dksX2_push_1 9 rfl rfl)
theorem dX2_push_34 : decode cX2_push 34 = .ok (.putfield 67, 3) := dk_181 0 67 (dk_at dksX2_push_1 10 rfl rfl)
theorem dX2_push_37 : decode cX2_push 37 = .ok (.aload_n 1, 1) := dk_43 (dk_at dksX2_push_1 13 rfl rfl)
theorem dX2_push_38 : decode cX2_push 38 = .ok (.iconst 0, 1) := dk_3 (dk_at dksX2_push_1 14 rfl rfl)
theorem dX2_push_39 : decode cX2_push 39 = .ok (.aload_n 0, 1) := dk_42 (dk_at dksX2_push_1 15 rfl rfl)
theorem dX2_push_40 : decode cX2_push 40 = .ok (.getfield 16, 3) := dk_180 0 16 (dk_at dksX2_push_1 16 rfl rfl)
theorem dX2_push_43 : decode cX2_push 43 = .ok (.sipush 298, 3) := dk_17 1 42 (dk_at dksX2_push_1 19 rfl rfl)
theorem dX2_push_46 : decode cX2_push 46 = .ok (.aload_n 0, 1) := dk_42 (dk_at dksX2_push_1 22 rfl rfl)
theorem dX2_push_47 : decode cX2_push 47 = .ok (.getfield 67, 3) := dk_180 0 67 (dk_at dksX2_push_2 0 rfl rfl)
theorem dX2_push_50 : decode cX2_push 50 = .ok (.imul, 1) := dk_104 (dk_at dksX2_push_2 3 rfl rfl)
theorem dX2_push_51 : decode cX2_push 51 = .ok (.sipush 298, 3) := dk_17 1 42 (dk_at dksX2_push_2 4 rfl rfl)
theorem dX2_push_54 : decode cX2_push 54 = .ok (.invokestatic 53, 3) := dk_184 0 53 (dk_at dksX2_push_2 7 rfl rfl)
theorem dX2_push_57 : decode cX2_push 57 = .ok (.aload_n 0, 1) := dk_42 (dk_at dksX2_push_2 10 rfl rfl)
theorem dX2_push_58 : decode cX2_push 58 = .ok (.dup, 1) := dk_89 (dk_at dksX2_push_2 11 rfl rfl)
theorem dX2_push_59 : decode cX2_push 59 = .ok (.getfield 67, 3) := dk_180 0 67 (dk_at dksX2_push_2 12 rfl rfl)
theorem dX2_push_62 : decode cX2_push 62 = .ok (.iconst 1, 1) := dk_4 (dk_at dksX2_push_2 15 rfl rfl)
theorem dX2_push_63 : decode cX2_push 63 = .ok (.iadd, 1) := dk_96 (dk_at dksX2_push_2 16 rfl rfl)
theorem dX2_push_64 : decode cX2_push 64 = .ok (.putfield 67, 3) := dk_181 0 67 (dk_at dksX2_push_2 17 rfl rfl)
theorem dX2_push_67 : decode cX2_push 67 = .ok (.return_, 1) := dk_177 (dk_at dksX2_push_2 20 rfl rfl)
abbrev cX2_addCrew : ByteArray := prog_12_method_13_code
def yX2_addCrew : MethodName := ⟨RX2, "addCrew", "(I)I"⟩
def dkwX2_addCrew_3 : List UInt8 := [42, 180, 0, 9, 4, 92, 46, 4, 96, 79, 28, 172]
abbrev dktX2_addCrew_3 : List UInt8 := dkwX2_addCrew_3 ++ []
def dkwX2_addCrew_2 : List UInt8 := [28, 29, 184, 0, 91, 3, 79, 132, 3, 1, 167, 255, 236, 42, 180, 0, 9, 28, 3, 184, 0, 91, 27, 79]
abbrev dktX2_addCrew_2 : List UInt8 := dkwX2_addCrew_2 ++ dktX2_addCrew_3
def dkwX2_addCrew_1 : List UInt8 := [172, 42, 182, 0, 88, 42, 180, 0, 9, 4, 46, 61, 3, 62, 29, 16, 28, 162, 0, 20, 42, 180, 0, 9]
abbrev dktX2_addCrew_1 : List UInt8 := dkwX2_addCrew_1 ++ dktX2_addCrew_2
def dkwX2_addCrew_0 : List UInt8 := [27, 3, 8, 184, 0, 59, 154, 0, 5, 2, 172, 42, 180, 0, 9, 4, 46, 16, 6, 160, 0, 6, 16, 253]
abbrev dktX2_addCrew_0 : List UInt8 := dkwX2_addCrew_0 ++ dktX2_addCrew_1
theorem dksX2_addCrew_0 : cX2_addCrew.data.toList.drop 0 = dktX2_addCrew_0 := by decide +kernel
theorem dksX2_addCrew_1 : cX2_addCrew.data.toList.drop 24 = dktX2_addCrew_1 := dk_seg dksX2_addCrew_0 24 rfl rfl
theorem dksX2_addCrew_2 : cX2_addCrew.data.toList.drop 48 = dktX2_addCrew_2 := dk_seg dksX2_addCrew_1 24 rfl rfl
theorem dksX2_addCrew_3 : cX2_addCrew.data.toList.drop 72 = dktX2_addCrew_3 := dk_seg dksX2_addCrew_2 24 rfl rfl
theorem dX2_addCrew_0 : decode cX2_addCrew 0 = .ok (.iload_n 1, 1) := dk_27 (dk_at dksX2_addCrew_0 0 rfl rfl)
theorem dX2_addCrew_1 : decode cX2_addCrew 1 = .ok (.iconst 0, 1) := dk_3 (dk_at dksX2_addCrew_0 1 rfl rfl)
theorem dX2_addCrew_2 : decode cX2_addCrew 2 = .ok (.iconst 5, 1) := dk_8 (dk_at dksX2_addCrew_0 2 rfl rfl)
theorem dX2_addCrew_3 : decode cX2_addCrew 3 = .ok (.invokestatic 59, 3) := dk_184 0 59 (dk_at dksX2_addCrew_0 3 rfl rfl)
theorem dX2_addCrew_6 : decode cX2_addCrew 6 = .ok (.ifCond .ne 5, 3) := dk_154 0 5 (dk_at dksX2_addCrew_0 6 rfl rfl)
theorem dX2_addCrew_9 : decode cX2_addCrew 9 = .ok (.iconst (-1), 1) := dk_2 (dk_at dksX2_addCrew_0 9 rfl rfl)
theorem dX2_addCrew_10 : decode cX2_addCrew 10 = .ok (.ireturn, 1) := dk_172 (dk_at dksX2_addCrew_0 10 rfl rfl)
theorem dX2_addCrew_11 : decode cX2_addCrew 11 = .ok (.aload_n 0, 1) := dk_42 (dk_at dksX2_addCrew_0 11 rfl rfl)
theorem dX2_addCrew_12 : decode cX2_addCrew 12 = .ok (.getfield 9, 3) := dk_180 0 9 (dk_at dksX2_addCrew_0 12 rfl rfl)
theorem dX2_addCrew_15 : decode cX2_addCrew 15 = .ok (.iconst 1, 1) := dk_4 (dk_at dksX2_addCrew_0 15 rfl rfl)
theorem dX2_addCrew_16 : decode cX2_addCrew 16 = .ok (.iaload, 1) := dk_46 (dk_at dksX2_addCrew_0 16 rfl rfl)
theorem dX2_addCrew_17 : decode cX2_addCrew 17 = .ok (.bipush 6, 2) := dk_16 6 (dk_at dksX2_addCrew_0 17 rfl rfl)
theorem dX2_addCrew_19 : decode cX2_addCrew 19 = .ok (.if_icmp .ne 6, 3) := dk_160 0 6 (dk_at dksX2_addCrew_0 19 rfl rfl)
theorem dX2_addCrew_22 : decode cX2_addCrew 22 = .ok (.bipush (-3), 2) := dk_16 253 (dk_at dksX2_addCrew_0 22 rfl rfl)
theorem dX2_addCrew_24 : decode cX2_addCrew 24 = .ok (.ireturn, 1) := dk_172 (dk_at dksX2_addCrew_1 0 rfl rfl)
theorem dX2_addCrew_25 : decode cX2_addCrew 25 = .ok (.aload_n 0, 1) := dk_42 (dk_at dksX2_addCrew_1 1 rfl rfl)
theorem dX2_addCrew_26 : decode cX2_addCrew 26 = .ok (.invokevirtual 88, 3) := dk_182 0 88 (dk_at dksX2_addCrew_1 2 rfl rfl)
theorem dX2_addCrew_29 : decode cX2_addCrew 29 = .ok (.aload_n 0, 1) := dk_42 (dk_at dksX2_addCrew_1 5 rfl rfl)
theorem dX2_addCrew_30 : decode cX2_addCrew 30 = .ok (.getfield 9, 3) := dk_180 0 9 (dk_at dksX2_addCrew_1 6 rfl rfl)
theorem dX2_addCrew_33 : decode cX2_addCrew 33 = .ok (.iconst 1, 1) := dk_4 (dk_at dksX2_addCrew_1 9 rfl rfl)
theorem dX2_addCrew_34 : decode cX2_addCrew 34 = .ok (.iaload, 1) := dk_46 (dk_at dksX2_addCrew_1 10 rfl rfl)
theorem dX2_addCrew_35 : decode cX2_addCrew 35 = .ok (.istore_n 2, 1) := dk_61 (dk_at dksX2_addCrew_1 11 rfl rfl)
theorem dX2_addCrew_36 : decode cX2_addCrew 36 = .ok (.iconst 0, 1) := dk_3 (dk_at dksX2_addCrew_1 12 rfl rfl)
theorem dX2_addCrew_37 : decode cX2_addCrew 37 = .ok (.istore_n 3, 1) := dk_62 (dk_at dksX2_addCrew_1 13 rfl rfl)
theorem dX2_addCrew_38 : decode cX2_addCrew 38 = .ok (.iload_n 3, 1) := dk_29 (dk_at dksX2_addCrew_1 14 rfl rfl)
theorem dX2_addCrew_39 : decode cX2_addCrew 39 = .ok (.bipush 28, 2) := dk_16 28 (dk_at dksX2_addCrew_1 15 rfl rfl)
theorem dX2_addCrew_41 : decode cX2_addCrew 41 = .ok (.if_icmp .ge 20, 3) := dk_162 0 20 (dk_at dksX2_addCrew_1 17 rfl rfl)
theorem dX2_addCrew_44 : decode cX2_addCrew 44 = .ok (.aload_n 0, 1) := dk_42 (dk_at dksX2_addCrew_1 20 rfl rfl)
theorem dX2_addCrew_45 : decode cX2_addCrew 45 = .ok (.getfield 9, 3) := dk_180 0 9 (dk_at dksX2_addCrew_1 21 rfl rfl)
theorem dX2_addCrew_48 : decode cX2_addCrew 48 = .ok (.iload_n 2, 1) := dk_28 (dk_at dksX2_addCrew_2 0 rfl rfl)
theorem dX2_addCrew_49 : decode cX2_addCrew 49 = .ok (.iload_n 3, 1) := dk_29 (dk_at dksX2_addCrew_2 1 rfl rfl)
theorem dX2_addCrew_50 : decode cX2_addCrew 50 = .ok (.invokestatic 91, 3) := dk_184 0 91 (dk_at dksX2_addCrew_2 2 rfl rfl)
theorem dX2_addCrew_53 : decode cX2_addCrew 53 = .ok (.iconst 0, 1) := dk_3 (dk_at dksX2_addCrew_2 5 rfl rfl)
theorem dX2_addCrew_54 : decode cX2_addCrew 54 = .ok (.iastore, 1) := dk_79 (dk_at dksX2_addCrew_2 6 rfl rfl)
theorem dX2_addCrew_55 : decode cX2_addCrew 55 = .ok (.iinc 3 1, 3) := dk_132 3 1 (dk_at dksX2_addCrew_2 7 rfl rfl)
theorem dX2_addCrew_58 : decode cX2_addCrew 58 = .ok (.goto (-20), 3) := dk_167 255 236 (dk_at dksX2_addCrew_2 10 rfl rfl)
theorem dX2_addCrew_61 : decode cX2_addCrew 61 = .ok (.aload_n 0, 1) := dk_42 (dk_at dksX2_addCrew_2 13 rfl rfl)
theorem dX2_addCrew_62 : decode cX2_addCrew 62 = .ok (.getfield 9, 3) := dk_180 0 9 (dk_at dksX2_addCrew_2 14 rfl rfl)
theorem dX2_addCrew_65 : decode cX2_addCrew 65 = .ok (.iload_n 2, 1) := dk_28 (dk_at dksX2_addCrew_2 17 rfl rfl)
theorem dX2_addCrew_66 : decode cX2_addCrew 66 = .ok (.iconst 0, 1) := dk_3 (dk_at dksX2_addCrew_2 18 rfl rfl)
theorem dX2_addCrew_67 : decode cX2_addCrew 67 = .ok (.invokestatic 91, 3) := dk_184 0 91 (dk_at dksX2_addCrew_2 19 rfl rfl)
theorem dX2_addCrew_70 : decode cX2_addCrew 70 = .ok (.iload_n 1, 1) := dk_27 (dk_at dksX2_addCrew_2 22 rfl rfl)
theorem dX2_addCrew_71 : decode cX2_addCrew 71 = .ok (.iastore, 1) := dk_79 (dk_at dksX2_addCrew_2 23 rfl rfl)
theorem dX2_addCrew_72 : decode cX2_addCrew 72 = .ok (.aload_n 0, 1) := dk_42 (dk_at dksX2_addCrew_3 0 rfl rfl)
theorem dX2_addCrew_73 : decode cX2_addCrew 73 = .ok (.getfield 9, 3) := dk_180 0 9 (dk_at dksX2_addCrew_3 1 rfl rfl)
theorem dX2_addCrew_76 : decode cX2_addCrew 76 = .ok (.iconst 1, 1) := dk_4 (dk_at dksX2_addCrew_3 4 rfl rfl)
theorem dX2_addCrew_77 : decode cX2_addCrew 77 = .ok (.dup2, 1) := dk_92 (dk_at dksX2_addCrew_3 5 rfl rfl)
theorem dX2_addCrew_78 : decode cX2_addCrew 78 = .ok (.iaload, 1) := dk_46 (dk_at dksX2_addCrew_3 6 rfl rfl)
theorem dX2_addCrew_79 : decode cX2_addCrew 79 = .ok (.iconst 1, 1) := dk_4 (dk_at dksX2_addCrew_3 7 rfl rfl)
theorem dX2_addCrew_80 : decode cX2_addCrew 80 = .ok (.iadd, 1) := dk_96 (dk_at dksX2_addCrew_3 8 rfl rfl)
theorem dX2_addCrew_81 : decode cX2_addCrew 81 = .ok (.iastore, 1) := dk_79 (dk_at dksX2_addCrew_3 9 rfl rfl)
theorem dX2_addCrew_82 : decode cX2_addCrew 82 = .ok (.iload_n 2, 1) := dk_28 (dk_at dksX2_addCrew_3 10 rfl rfl)
theorem dX2_addCrew_83 : decode cX2_addCrew 83 = .ok (.ireturn, 1) := dk_172 (dk_at dksX2_addCrew_3 11 rfl rfl)
abbrev cX2_crewAt : ByteArray := prog_12_method_8_code
def yX2_crewAt : MethodName := ⟨RX2, "crewAt", "(II)I"⟩
def dkwX2_crewAt_0 : List UInt8 := [17, 0, 130, 16, 28, 26, 104, 96, 27, 96, 172]
abbrev dktX2_crewAt_0 : List UInt8 := dkwX2_crewAt_0 ++ []
theorem dksX2_crewAt_0 : cX2_crewAt.data.toList.drop 0 = dktX2_crewAt_0 := by decide +kernel
theorem dX2_crewAt_0 : decode cX2_crewAt 0 = .ok (.sipush 130, 3) := dk_17 0 130 (dk_at dksX2_crewAt_0 0 rfl rfl)
theorem dX2_crewAt_3 : decode cX2_crewAt 3 = .ok (.bipush 28, 2) := dk_16 28 (dk_at dksX2_crewAt_0 3 rfl rfl)
theorem dX2_crewAt_5 : decode cX2_crewAt 5 = .ok (.iload_n 0, 1) := dk_26 (dk_at dksX2_crewAt_0 5 rfl rfl)
theorem dX2_crewAt_6 : decode cX2_crewAt 6 = .ok (.imul, 1) := dk_104 (dk_at dksX2_crewAt_0 6 rfl rfl)
theorem dX2_crewAt_7 : decode cX2_crewAt 7 = .ok (.iadd, 1) := dk_96 (dk_at dksX2_crewAt_0 7 rfl rfl)
theorem dX2_crewAt_8 : decode cX2_crewAt 8 = .ok (.iload_n 1, 1) := dk_27 (dk_at dksX2_crewAt_0 8 rfl rfl)
theorem dX2_crewAt_9 : decode cX2_crewAt 9 = .ok (.iadd, 1) := dk_96 (dk_at dksX2_crewAt_0 9 rfl rfl)
theorem dX2_crewAt_10 : decode cX2_crewAt 10 = .ok (.ireturn, 1) := dk_172 (dk_at dksX2_crewAt_0 10 rfl rfl)
abbrev cX2_legCount : ByteArray := prog_12_method_14_code
def yX2_legCount : MethodName := ⟨RX2, "legCount", "()I"⟩
def dkwX2_legCount_0 : List UInt8 := [42, 180, 0, 9, 3, 46, 172]
abbrev dktX2_legCount_0 : List UInt8 := dkwX2_legCount_0 ++ []
theorem dksX2_legCount_0 : cX2_legCount.data.toList.drop 0 = dktX2_legCount_0 := by decide +kernel
theorem dX2_legCount_0 : decode cX2_legCount 0 = .ok (.aload_n 0, 1) := dk_42 (dk_at dksX2_legCount_0 0 rfl rfl)
theorem dX2_legCount_1 : decode cX2_legCount 1 = .ok (.getfield 9, 3) := dk_180 0 9 (dk_at dksX2_legCount_0 1 rfl rfl)
theorem dX2_legCount_4 : decode cX2_legCount 4 = .ok (.iconst 0, 1) := dk_3 (dk_at dksX2_legCount_0 4 rfl rfl)
theorem dX2_legCount_5 : decode cX2_legCount 5 = .ok (.iaload, 1) := dk_46 (dk_at dksX2_legCount_0 5 rfl rfl)
theorem dX2_legCount_6 : decode cX2_legCount 6 = .ok (.ireturn, 1) := dk_172 (dk_at dksX2_legCount_0 6 rfl rfl)
abbrev cX2_crewCount : ByteArray := prog_12_method_15_code
def yX2_crewCount : MethodName := ⟨RX2, "crewCount", "()I"⟩
def dkwX2_crewCount_0 : List UInt8 := [42, 180, 0, 9, 4, 46, 172]
abbrev dktX2_crewCount_0 : List UInt8 := dkwX2_crewCount_0 ++ []
theorem dksX2_crewCount_0 : cX2_crewCount.data.toList.drop 0 = dktX2_crewCount_0 := by decide +kernel
theorem dX2_crewCount_0 : decode cX2_crewCount 0 = .ok (.aload_n 0, 1) := dk_42 (dk_at dksX2_crewCount_0 0 rfl rfl)
theorem dX2_crewCount_1 : decode cX2_crewCount 1 = .ok (.getfield 9, 3) := dk_180 0 9 (dk_at dksX2_crewCount_0 1 rfl rfl)
theorem dX2_crewCount_4 : decode cX2_crewCount 4 = .ok (.iconst 1, 1) := dk_4 (dk_at dksX2_crewCount_0 4 rfl rfl)
theorem dX2_crewCount_5 : decode cX2_crewCount 5 = .ok (.iaload, 1) := dk_46 (dk_at dksX2_crewCount_0 5 rfl rfl)
theorem dX2_crewCount_6 : decode cX2_crewCount 6 = .ok (.ireturn, 1) := dk_172 (dk_at dksX2_crewCount_0 6 rfl rfl)
abbrev cX2_leg : ByteArray := prog_12_method_18_code
def yX2_leg : MethodName := ⟨RX2, "leg", "(II)I"⟩
def dkwX2_leg_1 : List UInt8 := [42, 27, 28, 182, 0, 63, 167, 0, 8, 42, 27, 182, 0, 104, 172]
abbrev dktX2_leg_1 : List UInt8 := dkwX2_leg_1 ++ []
def dkwX2_leg_0 : List UInt8 := [42, 27, 182, 0, 100, 153, 0, 12, 28, 3, 8, 184, 0, 59, 154, 0, 5, 2, 172, 28, 8, 162, 0, 12]
abbrev dktX2_leg_0 : List UInt8 := dkwX2_leg_0 ++ dktX2_leg_1
theorem dksX2_leg_0 : cX2_leg.data.toList.drop 0 = dktX2_leg_0 := by decide +kernel
theorem dksX2_leg_1 : cX2_leg.data.toList.drop 24 = dktX2_leg_1 := dk_seg dksX2_leg_0 24 rfl rfl
theorem dX2_leg_0 : decode cX2_leg 0 = .ok (.aload_n 0, 1) := dk_42 (dk_at dksX2_leg_0 0 rfl rfl)
theorem dX2_leg_1 : decode cX2_leg 1 = .ok (.iload_n 1, 1) := dk_27 (dk_at dksX2_leg_0 1 rfl rfl)
theorem dX2_leg_2 : decode cX2_leg 2 = .ok (.invokevirtual 100, 3) := dk_182 0 100 (dk_at dksX2_leg_0 2 rfl rfl)
theorem dX2_leg_5 : decode cX2_leg 5 = .ok (.ifCond .eq 12, 3) := dk_153 0 12 (dk_at dksX2_leg_0 5 rfl rfl)
theorem dX2_leg_8 : decode cX2_leg 8 = .ok (.iload_n 2, 1) := dk_28 (dk_at dksX2_leg_0 8 rfl rfl)
theorem dX2_leg_9 : decode cX2_leg 9 = .ok (.iconst 0, 1) := dk_3 (dk_at dksX2_leg_0 9 rfl rfl)
theorem dX2_leg_10 : decode cX2_leg 10 = .ok (.iconst 5, 1) := dk_8 (dk_at dksX2_leg_0 10 rfl rfl)
theorem dX2_leg_11 : decode cX2_leg 11 = .ok (.invokestatic 59, 3) := dk_184 0 59 (dk_at dksX2_leg_0 11 rfl rfl)
theorem dX2_leg_14 : decode cX2_leg 14 = .ok (.ifCond .ne 5, 3) := dk_154 0 5 (dk_at dksX2_leg_0 14 rfl rfl)
theorem dX2_leg_17 : decode cX2_leg 17 = .ok (.iconst (-1), 1) := dk_2 (dk_at dksX2_leg_0 17 rfl rfl)
theorem dX2_leg_18 : decode cX2_leg 18 = .ok (.ireturn, 1) := dk_172 (dk_at dksX2_leg_0 18 rfl rfl)
theorem dX2_leg_19 : decode cX2_leg 19 = .ok (.iload_n 2, 1) := dk_28 (dk_at dksX2_leg_0 19 rfl rfl)
theorem dX2_leg_20 : decode cX2_leg 20 = .ok (.iconst 5, 1) := dk_8 (dk_at dksX2_leg_0 20 rfl rfl)
theorem dX2_leg_21 : decode cX2_leg 21 = .ok (.if_icmp .ge 12, 3) := dk_162 0 12 (dk_at dksX2_leg_0 21 rfl rfl)
theorem dX2_leg_24 : decode cX2_leg 24 = .ok (.aload_n 0, 1) := dk_42 (dk_at dksX2_leg_1 0 rfl rfl)
theorem dX2_leg_25 : decode cX2_leg 25 = .ok (.iload_n 1, 1) := dk_27 (dk_at dksX2_leg_1 1 rfl rfl)
theorem dX2_leg_26 : decode cX2_leg 26 = .ok (.iload_n 2, 1) := dk_28 (dk_at dksX2_leg_1 2 rfl rfl)
theorem dX2_leg_27 : decode cX2_leg 27 = .ok (.invokevirtual 63, 3) := dk_182 0 63 (dk_at dksX2_leg_1 3 rfl rfl)
theorem dX2_leg_30 : decode cX2_leg 30 = .ok (.goto 8, 3) := dk_167 0 8 (dk_at dksX2_leg_1 6 rfl rfl)
theorem dX2_leg_33 : decode cX2_leg 33 = .ok (.aload_n 0, 1) := dk_42 (dk_at dksX2_leg_1 9 rfl rfl)
theorem dX2_leg_34 : decode cX2_leg 34 = .ok (.iload_n 1, 1) := dk_27 (dk_at dksX2_leg_1 10 rfl rfl)
theorem dX2_leg_35 : decode cX2_leg 35 = .ok (.invokevirtual 104, 3) := dk_182 0 104 (dk_at dksX2_leg_1 11 rfl rfl)
theorem dX2_leg_38 : decode cX2_leg 38 = .ok (.ireturn, 1) := dk_172 (dk_at dksX2_leg_1 14 rfl rfl)
abbrev cX2_isLeg : ByteArray := prog_12_method_3_code
def yX2_isLeg : MethodName := ⟨RX2, "isLeg", "(I)Z"⟩
def dkwX2_isLeg_0 : List UInt8 := [27, 3, 42, 180, 0, 9, 3, 46, 4, 100, 184, 0, 59, 172]
abbrev dktX2_isLeg_0 : List UInt8 := dkwX2_isLeg_0 ++ []
theorem dksX2_isLeg_0 : cX2_isLeg.data.toList.drop 0 = dktX2_isLeg_0 := by decide +kernel
theorem dX2_isLeg_0 : decode cX2_isLeg 0 = .ok (.iload_n 1, 1) := dk_27 (dk_at dksX2_isLeg_0 0 rfl rfl)
theorem dX2_isLeg_1 : decode cX2_isLeg 1 = .ok (.iconst 0, 1) := dk_3 (dk_at dksX2_isLeg_0 1 rfl rfl)
theorem dX2_isLeg_2 : decode cX2_isLeg 2 = .ok (.aload_n 0, 1) := dk_42 (dk_at dksX2_isLeg_0 2 rfl rfl)
theorem dX2_isLeg_3 : decode cX2_isLeg 3 = .ok (.getfield 9, 3) := dk_180 0 9 (dk_at dksX2_isLeg_0 3 rfl rfl)
theorem dX2_isLeg_6 : decode cX2_isLeg 6 = .ok (.iconst 0, 1) := dk_3 (dk_at dksX2_isLeg_0 6 rfl rfl)
theorem dX2_isLeg_7 : decode cX2_isLeg 7 = .ok (.iaload, 1) := dk_46 (dk_at dksX2_isLeg_0 7 rfl rfl)
theorem dX2_isLeg_8 : decode cX2_isLeg 8 = .ok (.iconst 1, 1) := dk_4 (dk_at dksX2_isLeg_0 8 rfl rfl)
theorem dX2_isLeg_9 : decode cX2_isLeg 9 = .ok (.isub, 1) := dk_100 (dk_at dksX2_isLeg_0 9 rfl rfl)
theorem dX2_isLeg_10 : decode cX2_isLeg 10 = .ok (.invokestatic 59, 3) := dk_184 0 59 (dk_at dksX2_isLeg_0 10 rfl rfl)
theorem dX2_isLeg_13 : decode cX2_isLeg 13 = .ok (.ireturn, 1) := dk_172 (dk_at dksX2_isLeg_0 13 rfl rfl)
abbrev cX2_flierOf : ByteArray := prog_12_method_17_code
def yX2_flierOf : MethodName := ⟨RX2, "flierOf", "(I)I"⟩
def dkwX2_flierOf_1 : List UInt8 := [28, 7, 29, 96, 182, 0, 94, 5, 112, 4, 160, 0, 5, 28, 172, 132, 2, 1, 167, 255, 216, 16, 254, 172]
abbrev dktX2_flierOf_1 : List UInt8 := dkwX2_flierOf_1 ++ []
def dkwX2_flierOf_0 : List UInt8 := [3, 61, 28, 42, 180, 0, 9, 4, 46, 162, 0, 36, 42, 28, 27, 182, 0, 97, 62, 29, 155, 0, 19, 42]
abbrev dktX2_flierOf_0 : List UInt8 := dkwX2_flierOf_0 ++ dktX2_flierOf_1
theorem dksX2_flierOf_0 : cX2_flierOf.data.toList.drop 0 = dktX2_flierOf_0 := by decide +kernel
theorem dksX2_flierOf_1 : cX2_flierOf.data.toList.drop 24 = dktX2_flierOf_1 := dk_seg dksX2_flierOf_0 24 rfl rfl
theorem dX2_flierOf_0 : decode cX2_flierOf 0 = .ok (.iconst 0, 1) := dk_3 (dk_at dksX2_flierOf_0 0 rfl rfl)
theorem dX2_flierOf_1 : decode cX2_flierOf 1 = .ok (.istore_n 2, 1) := dk_61 (dk_at dksX2_flierOf_0 1 rfl rfl)
theorem dX2_flierOf_2 : decode cX2_flierOf 2 = .ok (.iload_n 2, 1) := dk_28 (dk_at dksX2_flierOf_0 2 rfl rfl)
theorem dX2_flierOf_3 : decode cX2_flierOf 3 = .ok (.aload_n 0, 1) := dk_42 (dk_at dksX2_flierOf_0 3 rfl rfl)
theorem dX2_flierOf_4 : decode cX2_flierOf 4 = .ok (.getfield 9, 3) := dk_180 0 9 (dk_at dksX2_flierOf_0 4 rfl rfl)
theorem dX2_flierOf_7 : decode cX2_flierOf 7 = .ok (.iconst 1, 1) := dk_4 (dk_at dksX2_flierOf_0 7 rfl rfl)
theorem dX2_flierOf_8 : decode cX2_flierOf 8 = .ok (.iaload, 1) := dk_46 (dk_at dksX2_flierOf_0 8 rfl rfl)
theorem dX2_flierOf_9 : decode cX2_flierOf 9 = .ok (.if_icmp .ge 36, 3) := dk_162 0 36 (dk_at dksX2_flierOf_0 9 rfl rfl)
theorem dX2_flierOf_12 : decode cX2_flierOf 12 = .ok (.aload_n 0, 1) := dk_42 (dk_at dksX2_flierOf_0 12 rfl rfl)
theorem dX2_flierOf_13 : decode cX2_flierOf 13 = .ok (.iload_n 2, 1) := dk_28 (dk_at dksX2_flierOf_0 13 rfl rfl)
theorem dX2_flierOf_14 : decode cX2_flierOf 14 = .ok (.iload_n 1, 1) := dk_27 (dk_at dksX2_flierOf_0 14 rfl rfl)
theorem dX2_flierOf_15 : decode cX2_flierOf 15 = .ok (.invokevirtual 97, 3) := dk_182 0 97 (dk_at dksX2_flierOf_0 15 rfl rfl)
theorem dX2_flierOf_18 : decode cX2_flierOf 18 = .ok (.istore_n 3, 1) := dk_62 (dk_at dksX2_flierOf_0 18 rfl rfl)
theorem dX2_flierOf_19 : decode cX2_flierOf 19 = .ok (.iload_n 3, 1) := dk_29 (dk_at dksX2_flierOf_0 19 rfl rfl)
theorem dX2_flierOf_20 : decode cX2_flierOf 20 = .ok (.ifCond .lt 19, 3) := dk_155 0 19 (dk_at dksX2_flierOf_0 20 rfl rfl)
theorem dX2_flierOf_23 : decode cX2_flierOf 23 = .ok (.aload_n 0, 1) := dk_42 (dk_at dksX2_flierOf_0 23 rfl rfl)
theorem dX2_flierOf_24 : decode cX2_flierOf 24 = .ok (.iload_n 2, 1) := dk_28 (dk_at dksX2_flierOf_1 0 rfl rfl)
theorem dX2_flierOf_25 : decode cX2_flierOf 25 = .ok (.iconst 4, 1) := dk_7 (dk_at dksX2_flierOf_1 1 rfl rfl)
theorem dX2_flierOf_26 : decode cX2_flierOf 26 = .ok (.iload_n 3, 1) := dk_29 (dk_at dksX2_flierOf_1 2 rfl rfl)
theorem dX2_flierOf_27 : decode cX2_flierOf 27 = .ok (.iadd, 1) := dk_96 (dk_at dksX2_flierOf_1 3 rfl rfl)
theorem dX2_flierOf_28 : decode cX2_flierOf 28 = .ok (.invokevirtual 94, 3) := dk_182 0 94 (dk_at dksX2_flierOf_1 4 rfl rfl)
theorem dX2_flierOf_31 : decode cX2_flierOf 31 = .ok (.iconst 2, 1) := dk_5 (dk_at dksX2_flierOf_1 7 rfl rfl)
theorem dX2_flierOf_32 : decode cX2_flierOf 32 = .ok (.irem, 1) := dk_112 (dk_at dksX2_flierOf_1 8 rfl rfl)
theorem dX2_flierOf_33 : decode cX2_flierOf 33 = .ok (.iconst 1, 1) := dk_4 (dk_at dksX2_flierOf_1 9 rfl rfl)
theorem dX2_flierOf_34 : decode cX2_flierOf 34 = .ok (.if_icmp .ne 5, 3) := dk_160 0 5 (dk_at dksX2_flierOf_1 10 rfl rfl)
theorem dX2_flierOf_37 : decode cX2_flierOf 37 = .ok (.iload_n 2, 1) := dk_28 (dk_at dksX2_flierOf_1 13 rfl rfl)
theorem dX2_flierOf_38 : decode cX2_flierOf 38 = .ok (.ireturn, 1) := dk_172 (dk_at dksX2_flierOf_1 14 rfl rfl)
theorem dX2_flierOf_39 : decode cX2_flierOf 39 = .ok (.iinc 2 1, 3) := dk_132 2 1 (dk_at dksX2_flierOf_1 15 rfl rfl)
theorem dX2_flierOf_42 : decode cX2_flierOf 42 = .ok (.goto (-40), 3) := dk_167 255 216 (dk_at dksX2_flierOf_1 18 rfl rfl)
theorem dX2_flierOf_45 : decode cX2_flierOf 45 = .ok (.bipush (-2), 2) := dk_16 254 (dk_at dksX2_flierOf_1 21 rfl rfl)
theorem dX2_flierOf_47 : decode cX2_flierOf 47 = .ok (.ireturn, 1) := dk_172 (dk_at dksX2_flierOf_1 23 rfl rfl)
abbrev cX2_placeIn : ByteArray := prog_12_method_16_code
def yX2_placeIn : MethodName := ⟨RX2, "placeIn", "(II)I"⟩
def dkwX2_placeIn_1 : List UInt8 := [160, 0, 5, 29, 172, 132, 3, 1, 167, 255, 227, 2, 172]
abbrev dktX2_placeIn_1 : List UInt8 := dkwX2_placeIn_1 ++ []
def dkwX2_placeIn_0 : List UInt8 := [3, 62, 29, 42, 27, 6, 182, 0, 94, 162, 0, 25, 42, 27, 7, 29, 96, 182, 0, 94, 5, 108, 28]
abbrev dktX2_placeIn_0 : List UInt8 := dkwX2_placeIn_0 ++ dktX2_placeIn_1
theorem dksX2_placeIn_0 : cX2_placeIn.data.toList.drop 0 = dktX2_placeIn_0 := by decide +kernel
theorem dksX2_placeIn_1 : cX2_placeIn.data.toList.drop 23 = dktX2_placeIn_1 := dk_seg dksX2_placeIn_0 23 rfl rfl
theorem dX2_placeIn_0 : decode cX2_placeIn 0 = .ok (.iconst 0, 1) := dk_3 (dk_at dksX2_placeIn_0 0 rfl rfl)
theorem dX2_placeIn_1 : decode cX2_placeIn 1 = .ok (.istore_n 3, 1) := dk_62 (dk_at dksX2_placeIn_0 1 rfl rfl)
theorem dX2_placeIn_2 : decode cX2_placeIn 2 = .ok (.iload_n 3, 1) := dk_29 (dk_at dksX2_placeIn_0 2 rfl rfl)
theorem dX2_placeIn_3 : decode cX2_placeIn 3 = .ok (.aload_n 0, 1) := dk_42 (dk_at dksX2_placeIn_0 3 rfl rfl)
theorem dX2_placeIn_4 : decode cX2_placeIn 4 = .ok (.iload_n 1, 1) := dk_27 (dk_at dksX2_placeIn_0 4 rfl rfl)
theorem dX2_placeIn_5 : decode cX2_placeIn 5 = .ok (.iconst 3, 1) := dk_6 (dk_at dksX2_placeIn_0 5 rfl rfl)
theorem dX2_placeIn_6 : decode cX2_placeIn 6 = .ok (.invokevirtual 94, 3) := dk_182 0 94 (dk_at dksX2_placeIn_0 6 rfl rfl)
theorem dX2_placeIn_9 : decode cX2_placeIn 9 = .ok (.if_icmp .ge 25, 3) := dk_162 0 25 (dk_at dksX2_placeIn_0 9 rfl rfl)
theorem dX2_placeIn_12 : decode cX2_placeIn 12 = .ok (.aload_n 0, 1) := dk_42 (dk_at dksX2_placeIn_0 12 rfl rfl)
theorem dX2_placeIn_13 : decode cX2_placeIn 13 = .ok (.iload_n 1, 1) := dk_27 (dk_at dksX2_placeIn_0 13 rfl rfl)
theorem dX2_placeIn_14 : decode cX2_placeIn 14 = .ok (.iconst 4, 1) := dk_7 (dk_at dksX2_placeIn_0 14 rfl rfl)
theorem dX2_placeIn_15 : decode cX2_placeIn 15 = .ok (.iload_n 3, 1) := dk_29 (dk_at dksX2_placeIn_0 15 rfl rfl)
theorem dX2_placeIn_16 : decode cX2_placeIn 16 = .ok (.iadd, 1) := dk_96 (dk_at dksX2_placeIn_0 16 rfl rfl)
theorem dX2_placeIn_17 : decode cX2_placeIn 17 = .ok (.invokevirtual 94, 3) := dk_182 0 94 (dk_at dksX2_placeIn_0 17 rfl rfl)
theorem dX2_placeIn_20 : decode cX2_placeIn 20 = .ok (.iconst 2, 1) := dk_5 (dk_at dksX2_placeIn_0 20 rfl rfl)
theorem dX2_placeIn_21 : decode cX2_placeIn 21 = .ok (.idiv, 1) := dk_108 (dk_at dksX2_placeIn_0 21 rfl rfl)
theorem dX2_placeIn_22 : decode cX2_placeIn 22 = .ok (.iload_n 2, 1) := dk_28 (dk_at dksX2_placeIn_0 22 rfl rfl)
theorem dX2_placeIn_23 : decode cX2_placeIn 23 = .ok (.if_icmp .ne 5, 3) := dk_160 0 5 (dk_at dksX2_placeIn_1 0 rfl rfl)
theorem dX2_placeIn_26 : decode cX2_placeIn 26 = .ok (.iload_n 3, 1) := dk_29 (dk_at dksX2_placeIn_1 3 rfl rfl)
theorem dX2_placeIn_27 : decode cX2_placeIn 27 = .ok (.ireturn, 1) := dk_172 (dk_at dksX2_placeIn_1 4 rfl rfl)
theorem dX2_placeIn_28 : decode cX2_placeIn 28 = .ok (.iinc 3 1, 3) := dk_132 3 1 (dk_at dksX2_placeIn_1 5 rfl rfl)
theorem dX2_placeIn_31 : decode cX2_placeIn 31 = .ok (.goto (-29), 3) := dk_167 255 227 (dk_at dksX2_placeIn_1 8 rfl rfl)
theorem dX2_placeIn_34 : decode cX2_placeIn 34 = .ok (.iconst (-1), 1) := dk_2 (dk_at dksX2_placeIn_1 11 rfl rfl)
theorem dX2_placeIn_35 : decode cX2_placeIn 35 = .ok (.ireturn, 1) := dk_172 (dk_at dksX2_placeIn_1 12 rfl rfl)
abbrev cX2_ofCrew : ByteArray := prog_12_method_7_code
def yX2_ofCrew : MethodName := ⟨RX2, "ofCrew", "(II)I"⟩
def dkwX2_ofCrew_0 : List UInt8 := [42, 180, 0, 9, 17, 0, 130, 16, 28, 27, 104, 96, 28, 96, 46, 172]
abbrev dktX2_ofCrew_0 : List UInt8 := dkwX2_ofCrew_0 ++ []
theorem dksX2_ofCrew_0 : cX2_ofCrew.data.toList.drop 0 = dktX2_ofCrew_0 := by decide +kernel
theorem dX2_ofCrew_0 : decode cX2_ofCrew 0 = .ok (.aload_n 0, 1) := dk_42 (dk_at dksX2_ofCrew_0 0 rfl rfl)
theorem dX2_ofCrew_1 : decode cX2_ofCrew 1 = .ok (.getfield 9, 3) := dk_180 0 9 (dk_at dksX2_ofCrew_0 1 rfl rfl)
theorem dX2_ofCrew_4 : decode cX2_ofCrew 4 = .ok (.sipush 130, 3) := dk_17 0 130 (dk_at dksX2_ofCrew_0 4 rfl rfl)
theorem dX2_ofCrew_7 : decode cX2_ofCrew 7 = .ok (.bipush 28, 2) := dk_16 28 (dk_at dksX2_ofCrew_0 7 rfl rfl)
theorem dX2_ofCrew_9 : decode cX2_ofCrew 9 = .ok (.iload_n 1, 1) := dk_27 (dk_at dksX2_ofCrew_0 9 rfl rfl)
theorem dX2_ofCrew_10 : decode cX2_ofCrew 10 = .ok (.imul, 1) := dk_104 (dk_at dksX2_ofCrew_0 10 rfl rfl)
theorem dX2_ofCrew_11 : decode cX2_ofCrew 11 = .ok (.iadd, 1) := dk_96 (dk_at dksX2_ofCrew_0 11 rfl rfl)
theorem dX2_ofCrew_12 : decode cX2_ofCrew 12 = .ok (.iload_n 2, 1) := dk_28 (dk_at dksX2_ofCrew_0 12 rfl rfl)
theorem dX2_ofCrew_13 : decode cX2_ofCrew 13 = .ok (.iadd, 1) := dk_96 (dk_at dksX2_ofCrew_0 13 rfl rfl)
theorem dX2_ofCrew_14 : decode cX2_ofCrew 14 = .ok (.iaload, 1) := dk_46 (dk_at dksX2_ofCrew_0 14 rfl rfl)
theorem dX2_ofCrew_15 : decode cX2_ofCrew 15 = .ok (.ireturn, 1) := dk_172 (dk_at dksX2_ofCrew_0 15 rfl rfl)
abbrev cX2_setRule : ByteArray := prog_12_method_19_code
def yX2_setRule : MethodName := ⟨RX2, "setRule", "(II)I"⟩
def dkwX2_setRule_2 : List UInt8 := [96, 28, 79, 29, 172]
abbrev dktX2_setRule_2 : List UInt8 := dkwX2_setRule_2 ++ []
def dkwX2_setRule_1 : List UInt8 := [154, 0, 5, 2, 172, 42, 182, 0, 88, 42, 180, 0, 9, 5, 27, 96, 46, 62, 42, 180, 0, 9, 5, 27]
abbrev dktX2_setRule_1 : List UInt8 := dkwX2_setRule_1 ++ dktX2_setRule_2
def dkwX2_setRule_0 : List UInt8 := [27, 3, 16, 7, 184, 0, 59, 153, 0, 20, 28, 178, 0, 108, 27, 46, 178, 0, 111, 27, 46, 184, 0, 59]
abbrev dktX2_setRule_0 : List UInt8 := dkwX2_setRule_0 ++ dktX2_setRule_1
theorem dksX2_setRule_0 : cX2_setRule.data.toList.drop 0 = dktX2_setRule_0 := by decide +kernel
theorem dksX2_setRule_1 : cX2_setRule.data.toList.drop 24 = dktX2_setRule_1 := dk_seg dksX2_setRule_0 24 rfl rfl
theorem dksX2_setRule_2 : cX2_setRule.data.toList.drop 48 = dktX2_setRule_2 := dk_seg dksX2_setRule_1 24 rfl rfl
theorem dX2_setRule_0 : decode cX2_setRule 0 = .ok (.iload_n 1, 1) := dk_27 (dk_at dksX2_setRule_0 0 rfl rfl)
theorem dX2_setRule_1 : decode cX2_setRule 1 = .ok (.iconst 0, 1) := dk_3 (dk_at dksX2_setRule_0 1 rfl rfl)
theorem dX2_setRule_2 : decode cX2_setRule 2 = .ok (.bipush 7, 2) := dk_16 7 (dk_at dksX2_setRule_0 2 rfl rfl)
theorem dX2_setRule_4 : decode cX2_setRule 4 = .ok (.invokestatic 59, 3) := dk_184 0 59 (dk_at dksX2_setRule_0 4 rfl rfl)
theorem dX2_setRule_7 : decode cX2_setRule 7 = .ok (.ifCond .eq 20, 3) := dk_153 0 20 (dk_at dksX2_setRule_0 7 rfl rfl)
theorem dX2_setRule_10 : decode cX2_setRule 10 = .ok (.iload_n 2, 1) := dk_28 (dk_at dksX2_setRule_0 10 rfl rfl)
theorem dX2_setRule_11 : decode cX2_setRule 11 = .ok (.getstatic 108, 3) := dk_178 0 108 (dk_at dksX2_setRule_0 11 rfl rfl)
theorem dX2_setRule_14 : decode cX2_setRule 14 = .ok (.iload_n 1, 1) := dk_27 (dk_at dksX2_setRule_0 14 rfl rfl)
theorem dX2_setRule_15 : decode cX2_setRule 15 = .ok (.iaload, 1) := dk_46 (dk_at dksX2_setRule_0 15 rfl rfl)
theorem dX2_setRule_16 : decode cX2_setRule 16 = .ok (.getstatic 111, 3) := dk_178 0 111 (dk_at dksX2_setRule_0 16 rfl rfl)
theorem dX2_setRule_19 : decode cX2_setRule 19 = .ok (.iload_n 1, 1) := dk_27 (dk_at dksX2_setRule_0 19 rfl rfl)
theorem dX2_setRule_20 : decode cX2_setRule 20 = .ok (.iaload, 1) := dk_46 (dk_at dksX2_setRule_0 20 rfl rfl)
theorem dX2_setRule_21 : decode cX2_setRule 21 = .ok (.invokestatic 59, 3) := dk_184 0 59 (dk_at dksX2_setRule_0 21 rfl rfl)
theorem dX2_setRule_24 : decode cX2_setRule 24 = .ok (.ifCond .ne 5, 3) := dk_154 0 5 (dk_at dksX2_setRule_1 0 rfl rfl)
theorem dX2_setRule_27 : decode cX2_setRule 27 = .ok (.iconst (-1), 1) := dk_2 (dk_at dksX2_setRule_1 3 rfl rfl)
theorem dX2_setRule_28 : decode cX2_setRule 28 = .ok (.ireturn, 1) := dk_172 (dk_at dksX2_setRule_1 4 rfl rfl)
theorem dX2_setRule_29 : decode cX2_setRule 29 = .ok (.aload_n 0, 1) := dk_42 (dk_at dksX2_setRule_1 5 rfl rfl)
theorem dX2_setRule_30 : decode cX2_setRule 30 = .ok (.invokevirtual 88, 3) := dk_182 0 88 (dk_at dksX2_setRule_1 6 rfl rfl)
theorem dX2_setRule_33 : decode cX2_setRule 33 = .ok (.aload_n 0, 1) := dk_42 (dk_at dksX2_setRule_1 9 rfl rfl)
theorem dX2_setRule_34 : decode cX2_setRule 34 = .ok (.getfield 9, 3) := dk_180 0 9 (dk_at dksX2_setRule_1 10 rfl rfl)
theorem dX2_setRule_37 : decode cX2_setRule 37 = .ok (.iconst 2, 1) := dk_5 (dk_at dksX2_setRule_1 13 rfl rfl)
theorem dX2_setRule_38 : decode cX2_setRule 38 = .ok (.iload_n 1, 1) := dk_27 (dk_at dksX2_setRule_1 14 rfl rfl)
theorem dX2_setRule_39 : decode cX2_setRule 39 = .ok (.iadd, 1) := dk_96 (dk_at dksX2_setRule_1 15 rfl rfl)
theorem dX2_setRule_40 : decode cX2_setRule 40 = .ok (.iaload, 1) := dk_46 (dk_at dksX2_setRule_1 16 rfl rfl)
theorem dX2_setRule_41 : decode cX2_setRule 41 = .ok (.istore_n 3, 1) := dk_62 (dk_at dksX2_setRule_1 17 rfl rfl)
theorem dX2_setRule_42 : decode cX2_setRule 42 = .ok (.aload_n 0, 1) := dk_42 (dk_at dksX2_setRule_1 18 rfl rfl)
theorem dX2_setRule_43 : decode cX2_setRule 43 = .ok (.getfield 9, 3) := dk_180 0 9 (dk_at dksX2_setRule_1 19 rfl rfl)
theorem dX2_setRule_46 : decode cX2_setRule 46 = .ok (.iconst 2, 1) := dk_5 (dk_at dksX2_setRule_1 22 rfl rfl)
theorem dX2_setRule_47 : decode cX2_setRule 47 = .ok (.iload_n 1, 1) := dk_27 (dk_at dksX2_setRule_1 23 rfl rfl)
theorem dX2_setRule_48 : decode cX2_setRule 48 = .ok (.iadd, 1) := dk_96 (dk_at dksX2_setRule_2 0 rfl rfl)
theorem dX2_setRule_49 : decode cX2_setRule 49 = .ok (.iload_n 2, 1) := dk_28 (dk_at dksX2_setRule_2 1 rfl rfl)
theorem dX2_setRule_50 : decode cX2_setRule 50 = .ok (.iastore, 1) := dk_79 (dk_at dksX2_setRule_2 2 rfl rfl)
theorem dX2_setRule_51 : decode cX2_setRule 51 = .ok (.iload_n 3, 1) := dk_29 (dk_at dksX2_setRule_2 3 rfl rfl)
theorem dX2_setRule_52 : decode cX2_setRule 52 = .ok (.ireturn, 1) := dk_172 (dk_at dksX2_setRule_2 4 rfl rfl)
abbrev cX2_rule : ByteArray := prog_12_method_20_code
def yX2_rule : MethodName := ⟨RX2, "rule", "(I)I"⟩
def dkwX2_rule_0 : List UInt8 := [27, 3, 16, 7, 184, 0, 59, 153, 0, 14, 42, 180, 0, 9, 5, 27, 96, 46, 167, 0, 4, 2, 172]
abbrev dktX2_rule_0 : List UInt8 := dkwX2_rule_0 ++ []
theorem dksX2_rule_0 : cX2_rule.data.toList.drop 0 = dktX2_rule_0 := by decide +kernel
theorem dX2_rule_0 : decode cX2_rule 0 = .ok (.iload_n 1, 1) := dk_27 (dk_at dksX2_rule_0 0 rfl rfl)
theorem dX2_rule_1 : decode cX2_rule 1 = .ok (.iconst 0, 1) := dk_3 (dk_at dksX2_rule_0 1 rfl rfl)
theorem dX2_rule_2 : decode cX2_rule 2 = .ok (.bipush 7, 2) := dk_16 7 (dk_at dksX2_rule_0 2 rfl rfl)
theorem dX2_rule_4 : decode cX2_rule 4 = .ok (.invokestatic 59, 3) := dk_184 0 59 (dk_at dksX2_rule_0 4 rfl rfl)
theorem dX2_rule_7 : decode cX2_rule 7 = .ok (.ifCond .eq 14, 3) := dk_153 0 14 (dk_at dksX2_rule_0 7 rfl rfl)
theorem dX2_rule_10 : decode cX2_rule 10 = .ok (.aload_n 0, 1) := dk_42 (dk_at dksX2_rule_0 10 rfl rfl)
theorem dX2_rule_11 : decode cX2_rule 11 = .ok (.getfield 9, 3) := dk_180 0 9 (dk_at dksX2_rule_0 11 rfl rfl)
theorem dX2_rule_14 : decode cX2_rule 14 = .ok (.iconst 2, 1) := dk_5 (dk_at dksX2_rule_0 14 rfl rfl)
theorem dX2_rule_15 : decode cX2_rule 15 = .ok (.iload_n 1, 1) := dk_27 (dk_at dksX2_rule_0 15 rfl rfl)
theorem dX2_rule_16 : decode cX2_rule 16 = .ok (.iadd, 1) := dk_96 (dk_at dksX2_rule_0 16 rfl rfl)
theorem dX2_rule_17 : decode cX2_rule 17 = .ok (.iaload, 1) := dk_46 (dk_at dksX2_rule_0 17 rfl rfl)
theorem dX2_rule_18 : decode cX2_rule 18 = .ok (.goto 4, 3) := dk_167 0 4 (dk_at dksX2_rule_0 18 rfl rfl)
theorem dX2_rule_21 : decode cX2_rule 21 = .ok (.iconst (-1), 1) := dk_2 (dk_at dksX2_rule_0 21 rfl rfl)
theorem dX2_rule_22 : decode cX2_rule 22 = .ok (.ireturn, 1) := dk_172 (dk_at dksX2_rule_0 22 rfl rfl)
abbrev cX2_fly : ByteArray := prog_12_method_40_code
def yX2_fly : MethodName := ⟨RX2, "fly", "(II)I"⟩
def dkwX2_fly_0 : List UInt8 := [42, 27, 28, 4, 182, 0, 183, 172]
abbrev dktX2_fly_0 : List UInt8 := dkwX2_fly_0 ++ []
theorem dksX2_fly_0 : cX2_fly.data.toList.drop 0 = dktX2_fly_0 := by decide +kernel
theorem dX2_fly_0 : decode cX2_fly 0 = .ok (.aload_n 0, 1) := dk_42 (dk_at dksX2_fly_0 0 rfl rfl)
theorem dX2_fly_1 : decode cX2_fly 1 = .ok (.iload_n 1, 1) := dk_27 (dk_at dksX2_fly_0 1 rfl rfl)
theorem dX2_fly_2 : decode cX2_fly 2 = .ok (.iload_n 2, 1) := dk_28 (dk_at dksX2_fly_0 2 rfl rfl)
theorem dX2_fly_3 : decode cX2_fly 3 = .ok (.iconst 1, 1) := dk_4 (dk_at dksX2_fly_0 3 rfl rfl)
theorem dX2_fly_4 : decode cX2_fly 4 = .ok (.invokevirtual 183, 3) := dk_182 0 183 (dk_at dksX2_fly_0 4 rfl rfl)
theorem dX2_fly_7 : decode cX2_fly 7 = .ok (.ireturn, 1) := dk_172 (dk_at dksX2_fly_0 7 rfl rfl)
abbrev cX2_assign : ByteArray := prog_12_method_39_code
def yX2_assign : MethodName := ⟨RX2, "assign", "(IIZ)I"⟩
def dkwX2_assign_2 : List UInt8 := [27, 28, 29, 182, 0, 180, 172]
abbrev dktX2_assign_2 : List UInt8 := dkwX2_assign_2 ++ []
def dkwX2_assign_1 : List UInt8 := [182, 0, 177, 54, 4, 21, 4, 158, 0, 12, 16, 156, 21, 4, 16, 100, 108, 100, 172, 42, 182, 0, 88, 42]
abbrev dktX2_assign_1 : List UInt8 := dkwX2_assign_1 ++ dktX2_assign_2
def dkwX2_assign_0 : List UInt8 := [42, 27, 182, 0, 174, 153, 0, 11, 42, 28, 182, 0, 100, 154, 0, 5, 2, 172, 42, 27, 28, 29]
abbrev dktX2_assign_0 : List UInt8 := dkwX2_assign_0 ++ dktX2_assign_1
theorem dksX2_assign_0 : cX2_assign.data.toList.drop 0 = dktX2_assign_0 := by decide +kernel
theorem dksX2_assign_1 : cX2_assign.data.toList.drop 22 = dktX2_assign_1 := dk_seg dksX2_assign_0 22 rfl rfl
theorem dksX2_assign_2 : cX2_assign.data.toList.drop 46 = dktX2_assign_2 := dk_seg dksX2_assign_1 24 rfl rfl
theorem dX2_assign_0 : decode cX2_assign 0 = .ok (.aload_n 0, 1) := dk_42 (dk_at dksX2_assign_0 0 rfl rfl)
theorem dX2_assign_1 : decode cX2_assign 1 = .ok (.iload_n 1, 1) := dk_27 (dk_at dksX2_assign_0 1 rfl rfl)
theorem dX2_assign_2 : decode cX2_assign 2 = .ok (.invokevirtual 174, 3) := dk_182 0 174 (dk_at dksX2_assign_0 2 rfl rfl)
theorem dX2_assign_5 : decode cX2_assign 5 = .ok (.ifCond .eq 11, 3) := dk_153 0 11 (dk_at dksX2_assign_0 5 rfl rfl)
theorem dX2_assign_8 : decode cX2_assign 8 = .ok (.aload_n 0, 1) := dk_42 (dk_at dksX2_assign_0 8 rfl rfl)
theorem dX2_assign_9 : decode cX2_assign 9 = .ok (.iload_n 2, 1) := dk_28 (dk_at dksX2_assign_0 9 rfl rfl)
theorem dX2_assign_10 : decode cX2_assign 10 = .ok (.invokevirtual 100, 3) := dk_182 0 100 (dk_at dksX2_assign_0 10 rfl rfl)
theorem dX2_assign_13 : decode cX2_assign 13 = .ok (.ifCond .ne 5, 3) := dk_154 0 5 (dk_at dksX2_assign_0 13 rfl rfl)
theorem dX2_assign_16 : decode cX2_assign 16 = .ok (.iconst (-1), 1) := dk_2 (dk_at dksX2_assign_0 16 rfl rfl)
theorem dX2_assign_17 : decode cX2_assign 17 = .ok (.ireturn, 1) := dk_172 (dk_at dksX2_assign_0 17 rfl rfl)
theorem dX2_assign_18 : decode cX2_assign 18 = .ok (.aload_n 0, 1) := dk_42 (dk_at dksX2_assign_0 18 rfl rfl)
theorem dX2_assign_19 : decode cX2_assign 19 = .ok (.iload_n 1, 1) := dk_27 (dk_at dksX2_assign_0 19 rfl rfl)
theorem dX2_assign_20 : decode cX2_assign 20 = .ok (.iload_n 2, 1) := dk_28 (dk_at dksX2_assign_0 20 rfl rfl)
theorem dX2_assign_21 : decode cX2_assign 21 = .ok (.iload_n 3, 1) := dk_29 (dk_at dksX2_assign_0 21 rfl rfl)
theorem dX2_assign_22 : decode cX2_assign 22 = .ok (.invokevirtual 177, 3) := dk_182 0 177 (dk_at dksX2_assign_1 0 rfl rfl)
theorem dX2_assign_25 : decode cX2_assign 25 = .ok (.istore 4, 2) := dk_54 4 (dk_at dksX2_assign_1 3 rfl rfl)
theorem dX2_assign_27 : decode cX2_assign 27 = .ok (.iload 4, 2) := dk_21 4 (dk_at dksX2_assign_1 5 rfl rfl)
theorem dX2_assign_29 : decode cX2_assign 29 = .ok (.ifCond .le 12, 3) := dk_158 0 12 (dk_at dksX2_assign_1 7 rfl rfl)
theorem dX2_assign_32 : decode cX2_assign 32 = .ok (.bipush (-100), 2) := dk_16 156 (dk_at dksX2_assign_1 10 rfl rfl)
theorem dX2_assign_34 : decode cX2_assign 34 = .ok (.iload 4, 2) := dk_21 4 (dk_at dksX2_assign_1 12 rfl rfl)
theorem dX2_assign_36 : decode cX2_assign 36 = .ok (.bipush 100, 2) := dk_16 100 (dk_at dksX2_assign_1 14 rfl rfl)
theorem dX2_assign_38 : decode cX2_assign 38 = .ok (.idiv, 1) := dk_108 (dk_at dksX2_assign_1 16 rfl rfl)
theorem dX2_assign_39 : decode cX2_assign 39 = .ok (.isub, 1) := dk_100 (dk_at dksX2_assign_1 17 rfl rfl)
theorem dX2_assign_40 : decode cX2_assign 40 = .ok (.ireturn, 1) := dk_172 (dk_at dksX2_assign_1 18 rfl rfl)
theorem dX2_assign_41 : decode cX2_assign 41 = .ok (.aload_n 0, 1) := dk_42 (dk_at dksX2_assign_1 19 rfl rfl)
theorem dX2_assign_42 : decode cX2_assign 42 = .ok (.invokevirtual 88, 3) := dk_182 0 88 (dk_at dksX2_assign_1 20 rfl rfl)
theorem dX2_assign_45 : decode cX2_assign 45 = .ok (.aload_n 0, 1) := dk_42 (dk_at dksX2_assign_1 23 rfl rfl)
theorem dX2_assign_46 : decode cX2_assign 46 = .ok (.iload_n 1, 1) := dk_27 (dk_at dksX2_assign_2 0 rfl rfl)
theorem dX2_assign_47 : decode cX2_assign 47 = .ok (.iload_n 2, 1) := dk_28 (dk_at dksX2_assign_2 1 rfl rfl)
theorem dX2_assign_48 : decode cX2_assign 48 = .ok (.iload_n 3, 1) := dk_29 (dk_at dksX2_assign_2 2 rfl rfl)
theorem dX2_assign_49 : decode cX2_assign 49 = .ok (.invokevirtual 180, 3) := dk_182 0 180 (dk_at dksX2_assign_2 3 rfl rfl)
theorem dX2_assign_52 : decode cX2_assign 52 = .ok (.ireturn, 1) := dk_172 (dk_at dksX2_assign_2 6 rfl rfl)
abbrev cX2_isCrew : ByteArray := prog_12_method_4_code
def yX2_isCrew : MethodName := ⟨RX2, "isCrew", "(I)Z"⟩
def dkwX2_isCrew_0 : List UInt8 := [27, 3, 42, 180, 0, 9, 4, 46, 4, 100, 184, 0, 59, 172]
abbrev dktX2_isCrew_0 : List UInt8 := dkwX2_isCrew_0 ++ []
theorem dksX2_isCrew_0 : cX2_isCrew.data.toList.drop 0 = dktX2_isCrew_0 := by decide +kernel
theorem dX2_isCrew_0 : decode cX2_isCrew 0 = .ok (.iload_n 1, 1) := dk_27 (dk_at dksX2_isCrew_0 0 rfl rfl)
theorem dX2_isCrew_1 : decode cX2_isCrew 1 = .ok (.iconst 0, 1) := dk_3 (dk_at dksX2_isCrew_0 1 rfl rfl)
theorem dX2_isCrew_2 : decode cX2_isCrew 2 = .ok (.aload_n 0, 1) := dk_42 (dk_at dksX2_isCrew_0 2 rfl rfl)
theorem dX2_isCrew_3 : decode cX2_isCrew 3 = .ok (.getfield 9, 3) := dk_180 0 9 (dk_at dksX2_isCrew_0 3 rfl rfl)
theorem dX2_isCrew_6 : decode cX2_isCrew 6 = .ok (.iconst 1, 1) := dk_4 (dk_at dksX2_isCrew_0 6 rfl rfl)
theorem dX2_isCrew_7 : decode cX2_isCrew 7 = .ok (.iaload, 1) := dk_46 (dk_at dksX2_isCrew_0 7 rfl rfl)
theorem dX2_isCrew_8 : decode cX2_isCrew 8 = .ok (.iconst 1, 1) := dk_4 (dk_at dksX2_isCrew_0 8 rfl rfl)
theorem dX2_isCrew_9 : decode cX2_isCrew 9 = .ok (.isub, 1) := dk_100 (dk_at dksX2_isCrew_0 9 rfl rfl)
theorem dX2_isCrew_10 : decode cX2_isCrew 10 = .ok (.invokestatic 59, 3) := dk_184 0 59 (dk_at dksX2_isCrew_0 10 rfl rfl)
theorem dX2_isCrew_13 : decode cX2_isCrew 13 = .ok (.ireturn, 1) := dk_172 (dk_at dksX2_isCrew_0 13 rfl rfl)
abbrev cX2_hinders : ByteArray := prog_12_method_37_code
def yX2_hinders : MethodName := ⟨RX2, "hinders", "(IIZ)I"⟩
def dkwX2_hinders_0 : List UInt8 := [42, 27, 182, 0, 165, 42, 28, 29, 182, 0, 168, 172]
abbrev dktX2_hinders_0 : List UInt8 := dkwX2_hinders_0 ++ []
theorem dksX2_hinders_0 : cX2_hinders.data.toList.drop 0 = dktX2_hinders_0 := by decide +kernel
theorem dX2_hinders_0 : decode cX2_hinders 0 = .ok (.aload_n 0, 1) := dk_42 (dk_at dksX2_hinders_0 0 rfl rfl)
theorem dX2_hinders_1 : decode cX2_hinders 1 = .ok (.iload_n 1, 1) := dk_27 (dk_at dksX2_hinders_0 1 rfl rfl)
theorem dX2_hinders_2 : decode cX2_hinders 2 = .ok (.invokevirtual 165, 3) := dk_182 0 165 (dk_at dksX2_hinders_0 2 rfl rfl)
theorem dX2_hinders_5 : decode cX2_hinders 5 = .ok (.aload_n 0, 1) := dk_42 (dk_at dksX2_hinders_0 5 rfl rfl)
theorem dX2_hinders_6 : decode cX2_hinders 6 = .ok (.iload_n 2, 1) := dk_28 (dk_at dksX2_hinders_0 6 rfl rfl)
theorem dX2_hinders_7 : decode cX2_hinders 7 = .ok (.iload_n 3, 1) := dk_29 (dk_at dksX2_hinders_0 7 rfl rfl)
theorem dX2_hinders_8 : decode cX2_hinders 8 = .ok (.invokevirtual 168, 3) := dk_182 0 168 (dk_at dksX2_hinders_0 8 rfl rfl)
theorem dX2_hinders_11 : decode cX2_hinders 11 = .ok (.ireturn, 1) := dk_172 (dk_at dksX2_hinders_0 11 rfl rfl)
abbrev cX2_take : ByteArray := prog_12_method_21_code
def yX2_take : MethodName := ⟨RX2, "take", "(I)V"⟩
def dkwX2_take_1 : List UInt8 := [27, 7, 184, 0, 91, 42, 180, 0, 22, 3, 42, 180, 0, 114, 184, 0, 53, 177]
abbrev dktX2_take_1 : List UInt8 := dkwX2_take_1 ++ []
def dkwX2_take_0 : List UInt8 := [42, 42, 27, 6, 182, 0, 94, 181, 0, 114, 42, 42, 27, 3, 182, 0, 94, 181, 0, 117, 42, 180, 0, 9]
abbrev dktX2_take_0 : List UInt8 := dkwX2_take_0 ++ dktX2_take_1
theorem dksX2_take_0 : cX2_take.data.toList.drop 0 = dktX2_take_0 := by decide +kernel
theorem dksX2_take_1 : cX2_take.data.toList.drop 24 = dktX2_take_1 := dk_seg dksX2_take_0 24 rfl rfl
theorem dX2_take_0 : decode cX2_take 0 = .ok (.aload_n 0, 1) := dk_42 (dk_at dksX2_take_0 0 rfl rfl)
theorem dX2_take_1 : decode cX2_take 1 = .ok (.aload_n 0, 1) := dk_42 (dk_at dksX2_take_0 1 rfl rfl)
theorem dX2_take_2 : decode cX2_take 2 = .ok (.iload_n 1, 1) := dk_27 (dk_at dksX2_take_0 2 rfl rfl)
theorem dX2_take_3 : decode cX2_take 3 = .ok (.iconst 3, 1) := dk_6 (dk_at dksX2_take_0 3 rfl rfl)
theorem dX2_take_4 : decode cX2_take 4 = .ok (.invokevirtual 94, 3) := dk_182 0 94 (dk_at dksX2_take_0 4 rfl rfl)
theorem dX2_take_7 : decode cX2_take 7 = .ok (.putfield 114, 3) := dk_181 0 114 (dk_at dksX2_take_0 7 rfl rfl)
theorem dX2_take_10 : decode cX2_take 10 = .ok (.aload_n 0, 1) := dk_42 (dk_at dksX2_take_0 10 rfl rfl)
theorem dX2_take_11 : decode cX2_take 11 = .ok (.aload_n 0, 1) := dk_42 (dk_at dksX2_take_0 11 rfl rfl)
theorem dX2_take_12 : decode cX2_take 12 = .ok (.iload_n 1, 1) := dk_27 (dk_at dksX2_take_0 12 rfl rfl)
theorem dX2_take_13 : decode cX2_take 13 = .ok (.iconst 0, 1) := dk_3 (dk_at dksX2_take_0 13 rfl rfl)
theorem dX2_take_14 : decode cX2_take 14 = .ok (.invokevirtual 94, 3) := dk_182 0 94 (dk_at dksX2_take_0 14 rfl rfl)
theorem dX2_take_17 : decode cX2_take 17 = .ok (.putfield 117, 3) := dk_181 0 117 (dk_at dksX2_take_0 17 rfl rfl)
theorem dX2_take_20 : decode cX2_take 20 = .ok (.aload_n 0, 1) := dk_42 (dk_at dksX2_take_0 20 rfl rfl)
theorem dX2_take_21 : decode cX2_take 21 = .ok (.getfield 9, 3) := dk_180 0 9 (dk_at dksX2_take_0 21 rfl rfl)
theorem dX2_take_24 : decode cX2_take 24 = .ok (.iload_n 1, 1) := dk_27 (dk_at dksX2_take_1 0 rfl rfl)
theorem dX2_take_25 : decode cX2_take 25 = .ok (.iconst 4, 1) := dk_7 (dk_at dksX2_take_1 1 rfl rfl)
theorem dX2_take_26 : decode cX2_take 26 = .ok (.invokestatic 91, 3) := dk_184 0 91 (dk_at dksX2_take_1 2 rfl rfl)
theorem dX2_take_29 : decode cX2_take 29 = .ok (.aload_n 0, 1) := dk_42 (dk_at dksX2_take_1 5 rfl rfl)
theorem dX2_take_30 : decode cX2_take 30 = .ok (.getfield 22, 3) := dk_180 0 22 (dk_at dksX2_take_1 6 rfl rfl)
theorem dX2_take_33 : decode cX2_take 33 = .ok (.iconst 0, 1) := dk_3 (dk_at dksX2_take_1 9 rfl rfl)
theorem dX2_take_34 : decode cX2_take 34 = .ok (.aload_n 0, 1) := dk_42 (dk_at dksX2_take_1 10 rfl rfl)
theorem dX2_take_35 : decode cX2_take 35 = .ok (.getfield 114, 3) := dk_180 0 114 (dk_at dksX2_take_1 11 rfl rfl)
theorem dX2_take_38 : decode cX2_take 38 = .ok (.invokestatic 53, 3) := dk_184 0 53 (dk_at dksX2_take_1 14 rfl rfl)
theorem dX2_take_41 : decode cX2_take 41 = .ok (.return_, 1) := dk_177 (dk_at dksX2_take_1 17 rfl rfl)
abbrev cX2_hinders_2 : ByteArray := prog_12_method_36_code
def yX2_hinders_2 : MethodName := ⟨RX2, "hinders", "(IZ)I"⟩
def dkwX2_hinders_2_3 : List UInt8 := [54, 4, 42, 29, 182, 0, 161, 21, 4, 172]
abbrev dktX2_hinders_2_3 : List UInt8 := dkwX2_hinders_2_3 ++ []
def dkwX2_hinders_2_2 : List UInt8 := [27, 182, 0, 104, 155, 0, 7, 17, 3, 32, 172, 42, 27, 28, 182, 0, 157, 62, 42, 3, 182, 0, 154]
abbrev dktX2_hinders_2_2 : List UInt8 := dkwX2_hinders_2_2 ++ dktX2_hinders_2_3
def dkwX2_hinders_2_1 : List UInt8 := [42, 29, 182, 0, 120, 27, 160, 0, 7, 17, 3, 132, 172, 132, 3, 1, 167, 255, 232, 28, 153, 0, 15, 42]
abbrev dktX2_hinders_2_1 : List UInt8 := dkwX2_hinders_2_1 ++ dktX2_hinders_2_2
def dkwX2_hinders_2_0 : List UInt8 := [42, 27, 7, 182, 0, 63, 4, 160, 0, 7, 17, 3, 232, 172, 3, 62, 29, 42, 180, 0, 114, 162, 0, 22]
abbrev dktX2_hinders_2_0 : List UInt8 := dkwX2_hinders_2_0 ++ dktX2_hinders_2_1
theorem dksX2_hinders_2_0 : cX2_hinders_2.data.toList.drop 0 = dktX2_hinders_2_0 := by decide +kernel
theorem dksX2_hinders_2_1 : cX2_hinders_2.data.toList.drop 24 = dktX2_hinders_2_1 := dk_seg dksX2_hinders_2_0 24 rfl rfl
theorem dksX2_hinders_2_2 : cX2_hinders_2.data.toList.drop 48 = dktX2_hinders_2_2 := dk_seg dksX2_hinders_2_1 24 rfl rfl
theorem dksX2_hinders_2_3 : cX2_hinders_2.data.toList.drop 71 = dktX2_hinders_2_3 := dk_seg dksX2_hinders_2_2 23 rfl rfl
theorem dX2_hinders_2_0 : decode cX2_hinders_2 0 = .ok (.aload_n 0, 1) := dk_42 (dk_at dksX2_hinders_2_0 0 rfl rfl)
theorem dX2_hinders_2_1 : decode cX2_hinders_2 1 = .ok (.iload_n 1, 1) := dk_27 (dk_at dksX2_hinders_2_0 1 rfl rfl)
theorem dX2_hinders_2_2 : decode cX2_hinders_2 2 = .ok (.iconst 4, 1) := dk_7 (dk_at dksX2_hinders_2_0 2 rfl rfl)
theorem dX2_hinders_2_3 : decode cX2_hinders_2 3 = .ok (.invokevirtual 63, 3) := dk_182 0 63 (dk_at dksX2_hinders_2_0 3 rfl rfl)
theorem dX2_hinders_2_6 : decode cX2_hinders_2 6 = .ok (.iconst 1, 1) := dk_4 (dk_at dksX2_hinders_2_0 6 rfl rfl)
theorem dX2_hinders_2_7 : decode cX2_hinders_2 7 = .ok (.if_icmp .ne 7, 3) := dk_160 0 7 (dk_at dksX2_hinders_2_0 7 rfl rfl)
theorem dX2_hinders_2_10 : decode cX2_hinders_2 10 = .ok (.sipush 1000, 3) := dk_17 3 232 (dk_at dksX2_hinders_2_0 10 rfl rfl)
theorem dX2_hinders_2_13 : decode cX2_hinders_2 13 = .ok (.ireturn, 1) := dk_172 (dk_at dksX2_hinders_2_0 13 rfl rfl)
theorem dX2_hinders_2_14 : decode cX2_hinders_2 14 = .ok (.iconst 0, 1) := dk_3 (dk_at dksX2_hinders_2_0 14 rfl rfl)
theorem dX2_hinders_2_15 : decode cX2_hinders_2 15 = .ok (.istore_n 3, 1) := dk_62 (dk_at dksX2_hinders_2_0 15 rfl rfl)
theorem dX2_hinders_2_16 : decode cX2_hinders_2 16 = .ok (.iload_n 3, 1) := dk_29 (dk_at dksX2_hinders_2_0 16 rfl rfl)
theorem dX2_hinders_2_17 : decode cX2_hinders_2 17 = .ok (.aload_n 0, 1) := dk_42 (dk_at dksX2_hinders_2_0 17 rfl rfl)
theorem dX2_hinders_2_18 : decode cX2_hinders_2 18 = .ok (.getfield 114, 3) := dk_180 0 114 (dk_at dksX2_hinders_2_0 18 rfl rfl)
theorem dX2_hinders_2_21 : decode cX2_hinders_2 21 = .ok (.if_icmp .ge 22, 3) := dk_162 0 22 (dk_at dksX2_hinders_2_0 21 rfl rfl)
theorem dX2_hinders_2_24 : decode cX2_hinders_2 24 = .ok (.aload_n 0, 1) := dk_42 (dk_at dksX2_hinders_2_1 0 rfl rfl)
theorem dX2_hinders_2_25 : decode cX2_hinders_2 25 = .ok (.iload_n 3, 1) := dk_29 (dk_at dksX2_hinders_2_1 1 rfl rfl)
theorem dX2_hinders_2_26 : decode cX2_hinders_2 26 = .ok (.invokevirtual 120, 3) := dk_182 0 120 (dk_at dksX2_hinders_2_1 2 rfl rfl)
theorem dX2_hinders_2_29 : decode cX2_hinders_2 29 = .ok (.iload_n 1, 1) := dk_27 (dk_at dksX2_hinders_2_1 5 rfl rfl)
theorem dX2_hinders_2_30 : decode cX2_hinders_2 30 = .ok (.if_icmp .ne 7, 3) := dk_160 0 7 (dk_at dksX2_hinders_2_1 6 rfl rfl)
theorem dX2_hinders_2_33 : decode cX2_hinders_2 33 = .ok (.sipush 900, 3) := dk_17 3 132 (dk_at dksX2_hinders_2_1 9 rfl rfl)
theorem dX2_hinders_2_36 : decode cX2_hinders_2 36 = .ok (.ireturn, 1) := dk_172 (dk_at dksX2_hinders_2_1 12 rfl rfl)
theorem dX2_hinders_2_37 : decode cX2_hinders_2 37 = .ok (.iinc 3 1, 3) := dk_132 3 1 (dk_at dksX2_hinders_2_1 13 rfl rfl)
theorem dX2_hinders_2_40 : decode cX2_hinders_2 40 = .ok (.goto (-24), 3) := dk_167 255 232 (dk_at dksX2_hinders_2_1 16 rfl rfl)
theorem dX2_hinders_2_43 : decode cX2_hinders_2 43 = .ok (.iload_n 2, 1) := dk_28 (dk_at dksX2_hinders_2_1 19 rfl rfl)
theorem dX2_hinders_2_44 : decode cX2_hinders_2 44 = .ok (.ifCond .eq 15, 3) := dk_153 0 15 (dk_at dksX2_hinders_2_1 20 rfl rfl)
theorem dX2_hinders_2_47 : decode cX2_hinders_2 47 = .ok (.aload_n 0, 1) := dk_42 (dk_at dksX2_hinders_2_1 23 rfl rfl)
theorem dX2_hinders_2_48 : decode cX2_hinders_2 48 = .ok (.iload_n 1, 1) := dk_27 (dk_at dksX2_hinders_2_2 0 rfl rfl)
theorem dX2_hinders_2_49 : decode cX2_hinders_2 49 = .ok (.invokevirtual 104, 3) := dk_182 0 104 (dk_at dksX2_hinders_2_2 1 rfl rfl)
theorem dX2_hinders_2_52 : decode cX2_hinders_2 52 = .ok (.ifCond .lt 7, 3) := dk_155 0 7 (dk_at dksX2_hinders_2_2 4 rfl rfl)
theorem dX2_hinders_2_55 : decode cX2_hinders_2 55 = .ok (.sipush 800, 3) := dk_17 3 32 (dk_at dksX2_hinders_2_2 7 rfl rfl)
theorem dX2_hinders_2_58 : decode cX2_hinders_2 58 = .ok (.ireturn, 1) := dk_172 (dk_at dksX2_hinders_2_2 10 rfl rfl)
theorem dX2_hinders_2_59 : decode cX2_hinders_2 59 = .ok (.aload_n 0, 1) := dk_42 (dk_at dksX2_hinders_2_2 11 rfl rfl)
theorem dX2_hinders_2_60 : decode cX2_hinders_2 60 = .ok (.iload_n 1, 1) := dk_27 (dk_at dksX2_hinders_2_2 12 rfl rfl)
theorem dX2_hinders_2_61 : decode cX2_hinders_2 61 = .ok (.iload_n 2, 1) := dk_28 (dk_at dksX2_hinders_2_2 13 rfl rfl)
theorem dX2_hinders_2_62 : decode cX2_hinders_2 62 = .ok (.invokevirtual 157, 3) := dk_182 0 157 (dk_at dksX2_hinders_2_2 14 rfl rfl)
theorem dX2_hinders_2_65 : decode cX2_hinders_2 65 = .ok (.istore_n 3, 1) := dk_62 (dk_at dksX2_hinders_2_2 17 rfl rfl)
theorem dX2_hinders_2_66 : decode cX2_hinders_2 66 = .ok (.aload_n 0, 1) := dk_42 (dk_at dksX2_hinders_2_2 18 rfl rfl)
theorem dX2_hinders_2_67 : decode cX2_hinders_2 67 = .ok (.iconst 0, 1) := dk_3 (dk_at dksX2_hinders_2_2 19 rfl rfl)
theorem dX2_hinders_2_68 : decode cX2_hinders_2 68 = .ok (.invokevirtual 154, 3) := dk_182 0 154 (dk_at dksX2_hinders_2_2 20 rfl rfl)
theorem dX2_hinders_2_71 : decode cX2_hinders_2 71 = .ok (.istore 4, 2) := dk_54 4 (dk_at dksX2_hinders_2_3 0 rfl rfl)
theorem dX2_hinders_2_73 : decode cX2_hinders_2 73 = .ok (.aload_n 0, 1) := dk_42 (dk_at dksX2_hinders_2_3 2 rfl rfl)
theorem dX2_hinders_2_74 : decode cX2_hinders_2 74 = .ok (.iload_n 3, 1) := dk_29 (dk_at dksX2_hinders_2_3 3 rfl rfl)
theorem dX2_hinders_2_75 : decode cX2_hinders_2 75 = .ok (.invokevirtual 161, 3) := dk_182 0 161 (dk_at dksX2_hinders_2_3 4 rfl rfl)
theorem dX2_hinders_2_78 : decode cX2_hinders_2 78 = .ok (.iload 4, 2) := dk_21 4 (dk_at dksX2_hinders_2_3 7 rfl rfl)
theorem dX2_hinders_2_80 : decode cX2_hinders_2 80 = .ok (.ireturn, 1) := dk_172 (dk_at dksX2_hinders_2_3 9 rfl rfl)
abbrev cX2_legAt : ByteArray := prog_12_method_23_code
def yX2_legAt : MethodName := ⟨RX2, "legAt", "(I)I"⟩
def dkwX2_legAt_0 : List UInt8 := [42, 180, 0, 22, 27, 46, 5, 108, 172]
abbrev dktX2_legAt_0 : List UInt8 := dkwX2_legAt_0 ++ []
theorem dksX2_legAt_0 : cX2_legAt.data.toList.drop 0 = dktX2_legAt_0 := by decide +kernel
theorem dX2_legAt_0 : decode cX2_legAt 0 = .ok (.aload_n 0, 1) := dk_42 (dk_at dksX2_legAt_0 0 rfl rfl)
theorem dX2_legAt_1 : decode cX2_legAt 1 = .ok (.getfield 22, 3) := dk_180 0 22 (dk_at dksX2_legAt_0 1 rfl rfl)
theorem dX2_legAt_4 : decode cX2_legAt 4 = .ok (.iload_n 1, 1) := dk_27 (dk_at dksX2_legAt_0 4 rfl rfl)
theorem dX2_legAt_5 : decode cX2_legAt 5 = .ok (.iaload, 1) := dk_46 (dk_at dksX2_legAt_0 5 rfl rfl)
theorem dX2_legAt_6 : decode cX2_legAt 6 = .ok (.iconst 2, 1) := dk_5 (dk_at dksX2_legAt_0 6 rfl rfl)
theorem dX2_legAt_7 : decode cX2_legAt 7 = .ok (.idiv, 1) := dk_108 (dk_at dksX2_legAt_0 7 rfl rfl)
theorem dX2_legAt_8 : decode cX2_legAt 8 = .ok (.ireturn, 1) := dk_172 (dk_at dksX2_legAt_0 8 rfl rfl)
abbrev cX2_put : ByteArray := prog_12_method_25_code
def yX2_put : MethodName := ⟨RX2, "put", "(IZ)I"⟩
def dkwX2_put_4 : List UInt8 := [167, 0, 4, 3, 96, 79, 42, 89, 180, 0, 114, 4, 96, 181, 0, 114, 29, 172]
abbrev dktX2_put_4 : List UInt8 := dkwX2_put_4 ++ []
def dkwX2_put_3 : List UInt8 := [4, 100, 46, 79, 132, 3, 255, 167, 255, 182, 42, 180, 0, 22, 29, 5, 27, 104, 28, 153, 0, 7, 4]
abbrev dktX2_put_3 : List UInt8 := dkwX2_put_3 ++ dktX2_put_4
def dkwX2_put_2 : List UInt8 := [160, 0, 34, 42, 29, 4, 100, 182, 0, 120, 27, 164, 0, 23, 42, 180, 0, 22, 29, 42, 180, 0, 22, 29]
abbrev dktX2_put_2 : List UInt8 := dkwX2_put_2 ++ dktX2_put_3
def dkwX2_put_1 : List UInt8 := [182, 0, 63, 163, 0, 35, 42, 42, 29, 4, 100, 182, 0, 120, 5, 182, 0, 63, 42, 27, 5, 182, 0, 63]
abbrev dktX2_put_1 : List UInt8 := dkwX2_put_1 ++ dktX2_put_2
def dkwX2_put_0 : List UInt8 := [42, 180, 0, 114, 62, 29, 158, 0, 76, 42, 42, 29, 4, 100, 182, 0, 120, 5, 182, 0, 63, 42, 27, 5]
abbrev dktX2_put_0 : List UInt8 := dkwX2_put_0 ++ dktX2_put_1
theorem dksX2_put_0 : cX2_put.data.toList.drop 0 = dktX2_put_0 := by decide +kernel
theorem dksX2_put_1 : cX2_put.data.toList.drop 24 = dktX2_put_1 := dk_seg dksX2_put_0 24 rfl rfl
theorem dksX2_put_2 : cX2_put.data.toList.drop 48 = dktX2_put_2 := dk_seg dksX2_put_1 24 rfl rfl
theorem dksX2_put_3 : cX2_put.data.toList.drop 72 = dktX2_put_3 := dk_seg dksX2_put_2 24 rfl rfl
theorem dksX2_put_4 : cX2_put.data.toList.drop 95 = dktX2_put_4 := dk_seg dksX2_put_3 23 rfl rfl
theorem dX2_put_0 : decode cX2_put 0 = .ok (.aload_n 0, 1) := dk_42 (dk_at dksX2_put_0 0 rfl rfl)
theorem dX2_put_1 : decode cX2_put 1 = .ok (.getfield 114, 3) := dk_180 0 114 (dk_at dksX2_put_0 1 rfl rfl)
theorem dX2_put_4 : decode cX2_put 4 = .ok (.istore_n 3, 1) := dk_62 (dk_at dksX2_put_0 4 rfl rfl)
theorem dX2_put_5 : decode cX2_put 5 = .ok (.iload_n 3, 1) := dk_29 (dk_at dksX2_put_0 5 rfl rfl)
theorem dX2_put_6 : decode cX2_put 6 = .ok (.ifCond .le 76, 3) := dk_158 0 76 (dk_at dksX2_put_0 6 rfl rfl)
theorem dX2_put_9 : decode cX2_put 9 = .ok (.aload_n 0, 1) := dk_42 (dk_at dksX2_put_0 9 rfl rfl)
theorem dX2_put_10 : decode cX2_put 10 = .ok (.aload_n 0, 1) := dk_42 (dk_at dksX2_put_0 10 rfl rfl)
theorem dX2_put_11 : decode cX2_put 11 = .ok (.iload_n 3, 1) := dk_29 (dk_at dksX2_put_0 11 rfl rfl)
theorem dX2_put_12 : decode cX2_put 12 = .ok (.iconst 1, 1) := dk_4 (dk_at dksX2_put_0 12 rfl rfl)
theorem dX2_put_13 : decode cX2_put 13 = .ok (.isub, 1) := dk_100 (dk_at dksX2_put_0 13 rfl rfl)
theorem dX2_put_14 : decode cX2_put 14 = .ok (.invokevirtual 120, 3) := dk_182 0 120 (dk_at dksX2_put_0 14 rfl rfl)
theorem dX2_put_17 : decode cX2_put 17 = .ok (.iconst 2, 1) := dk_5 (dk_at dksX2_put_0 17 rfl rfl)
theorem dX2_put_18 : decode cX2_put 18 = .ok (.invokevirtual 63, 3) := dk_182 0 63 (dk_at dksX2_put_0 18 rfl rfl)
theorem dX2_put_21 : decode cX2_put 21 = .ok (.aload_n 0, 1) := dk_42 (dk_at dksX2_put_0 21 rfl rfl)
theorem dX2_put_22 : decode cX2_put 22 = .ok (.iload_n 1, 1) := dk_27 (dk_at dksX2_put_0 22 rfl rfl)
theorem dX2_put_23 : decode cX2_put 23 = .ok (.iconst 2, 1) := dk_5 (dk_at dksX2_put_0 23 rfl rfl)
theorem dX2_put_24 : decode cX2_put 24 = .ok (.invokevirtual 63, 3) := dk_182 0 63 (dk_at dksX2_put_1 0 rfl rfl)
theorem dX2_put_27 : decode cX2_put 27 = .ok (.if_icmp .gt 35, 3) := dk_163 0 35 (dk_at dksX2_put_1 3 rfl rfl)
theorem dX2_put_30 : decode cX2_put 30 = .ok (.aload_n 0, 1) := dk_42 (dk_at dksX2_put_1 6 rfl rfl)
theorem dX2_put_31 : decode cX2_put 31 = .ok (.aload_n 0, 1) := dk_42 (dk_at dksX2_put_1 7 rfl rfl)
theorem dX2_put_32 : decode cX2_put 32 = .ok (.iload_n 3, 1) := dk_29 (dk_at dksX2_put_1 8 rfl rfl)
theorem dX2_put_33 : decode cX2_put 33 = .ok (.iconst 1, 1) := dk_4 (dk_at dksX2_put_1 9 rfl rfl)
theorem dX2_put_34 : decode cX2_put 34 = .ok (.isub, 1) := dk_100 (dk_at dksX2_put_1 10 rfl rfl)
theorem dX2_put_35 : decode cX2_put 35 = .ok (.invokevirtual 120, 3) := dk_182 0 120 (dk_at dksX2_put_1 11 rfl rfl)
theorem dX2_put_38 : decode cX2_put 38 = .ok (.iconst 2, 1) := dk_5 (dk_at dksX2_put_1 14 rfl rfl)
theorem dX2_put_39 : decode cX2_put 39 = .ok (.invokevirtual 63, 3) := dk_182 0 63 (dk_at dksX2_put_1 15 rfl rfl)
theorem dX2_put_42 : decode cX2_put 42 = .ok (.aload_n 0, 1) := dk_42 (dk_at dksX2_put_1 18 rfl rfl)
theorem dX2_put_43 : decode cX2_put 43 = .ok (.iload_n 1, 1) := dk_27 (dk_at dksX2_put_1 19 rfl rfl)
theorem dX2_put_44 : decode cX2_put 44 = .ok (.iconst 2, 1) := dk_5 (dk_at dksX2_put_1 20 rfl rfl)
theorem dX2_put_45 : decode cX2_put 45 = .ok (.invokevirtual 63, 3) := dk_182 0 63 (dk_at dksX2_put_1 21 rfl rfl)
theorem dX2_put_48 : decode cX2_put 48 = .ok (.if_icmp .ne 34, 3) := dk_160 0 34 (dk_at dksX2_put_2 0 rfl rfl)
theorem dX2_put_51 : decode cX2_put 51 = .ok (.aload_n 0, 1) := dk_42 (dk_at dksX2_put_2 3 rfl rfl)
theorem dX2_put_52 : decode cX2_put 52 = .ok (.iload_n 3, 1) := dk_29 (dk_at dksX2_put_2 4 rfl rfl)
theorem dX2_put_53 : decode cX2_put 53 = .ok (.iconst 1, 1) := dk_4 (dk_at dksX2_put_2 5 rfl rfl)
theorem dX2_put_54 : decode cX2_put 54 = .ok (.isub, 1) := dk_100 (dk_at dksX2_put_2 6 rfl rfl)
theorem dX2_put_55 : decode cX2_put 55 = .ok (.invokevirtual 120, 3) := dk_182 0 120 (dk_at dksX2_put_2 7 rfl rfl)
theorem dX2_put_58 : decode cX2_put 58 = .ok (.iload_n 1, 1) := dk_27 (dk_at dksX2_put_2 10 rfl rfl)
theorem dX2_put_59 : decode cX2_put 59 = .ok (.if_icmp .le 23, 3) := dk_164 0 23 (dk_at dksX2_put_2 11 rfl rfl)
theorem dX2_put_62 : decode cX2_put 62 = .ok (.aload_n 0, 1) := dk_42 (dk_at dksX2_put_2 14 rfl rfl)
theorem dX2_put_63 : decode cX2_put 63 = .ok (.getfield 22, 3) := dk_180 0 22 (dk_at dksX2_put_2 15 rfl rfl)
theorem dX2_put_66 : decode cX2_put 66 = .ok (.iload_n 3, 1) := dk_29 (dk_at dksX2_put_2 18 rfl rfl)
theorem dX2_put_67 : decode cX2_put 67 = .ok (.aload_n 0, 1) := dk_42 (dk_at dksX2_put_2 19 rfl rfl)
theorem dX2_put_68 : decode cX2_put 68 = .ok (.getfield 22, 3) := dk_180 0 22 (dk_at dksX2_put_2 20 rfl rfl)
theorem dX2_put_71 : decode cX2_put 71 = .ok (.iload_n 3, 1) := dk_29 (dk_at dksX2_put_2 23 rfl rfl)
theorem dX2_put_72 : decode cX2_put 72 = .ok (.iconst 1, 1) := dk_4 (dk_at dksX2_put_3 0 rfl rfl)
theorem dX2_put_73 : decode cX2_put 73 = .ok (.isub, 1) := dk_100 (dk_at dksX2_put_3 1 rfl rfl)
theorem dX2_put_74 : decode cX2_put 74 = .ok (.iaload, 1) := dk_46 (dk_at dksX2_put_3 2 rfl rfl)
theorem dX2_put_75 : decode cX2_put 75 = .ok (.iastore, 1) := dk_79 (dk_at dksX2_put_3 3 rfl rfl)
theorem dX2_put_76 : decode cX2_put 76 = .ok (.iinc 3 (-1), 3) := dk_132 3 255 (dk_at dksX2_put_3 4 rfl rfl)
theorem dX2_put_79 : decode cX2_put 79 = .ok (.goto (-74), 3) := dk_167 255 182 (dk_at dksX2_put_3 7 rfl rfl)
theorem dX2_put_82 : decode cX2_put 82 = .ok (.aload_n 0, 1) := dk_42 (dk_at dksX2_put_3 10 rfl rfl)
theorem dX2_put_83 : decode cX2_put 83 = .ok (.getfield 22, 3) := dk_180 0 22 (dk_at dksX2_put_3 11 rfl rfl)
theorem dX2_put_86 : decode cX2_put 86 = .ok (.iload_n 3, 1) := dk_29 (dk_at dksX2_put_3 14 rfl rfl)
theorem dX2_put_87 : decode cX2_put 87 = .ok (.iconst 2, 1) := dk_5 (dk_at dksX2_put_3 15 rfl rfl)
theorem dX2_put_88 : decode cX2_put 88 = .ok (.iload_n 1, 1) := dk_27 (dk_at dksX2_put_3 16 rfl rfl)
theorem dX2_put_89 : decode cX2_put 89 = .ok (.imul, 1) := dk_104 (dk_at dksX2_put_3 17 rfl rfl)
theorem dX2_put_90 : decode cX2_put 90 = .ok (.iload_n 2, 1) := dk_28 (dk_at dksX2_put_3 18 rfl rfl)
theorem dX2_put_91 : decode cX2_put 91 = .ok (.ifCond .eq 7, 3) := dk_153 0 7 (dk_at dksX2_put_3 19 rfl rfl)
theorem dX2_put_94 : decode cX2_put 94 = .ok (.iconst 1, 1) := dk_4 (dk_at dksX2_put_3 22 rfl rfl)
theorem dX2_put_95 : decode cX2_put 95 = .ok (.goto 4, 3) := dk_167 0 4 (dk_at dksX2_put_4 0 rfl rfl)
theorem dX2_put_98 : decode cX2_put 98 = .ok (.iconst 0, 1) := dk_3 (dk_at dksX2_put_4 3 rfl rfl)
theorem dX2_put_99 : decode cX2_put 99 = .ok (.iadd, 1) := dk_96 (dk_at dksX2_put_4 4 rfl rfl)
theorem dX2_put_100 : decode cX2_put 100 = .ok (.iastore, 1) := dk_79 (dk_at dksX2_put_4 5 rfl rfl)
theorem dX2_put_101 : decode cX2_put 101 = .ok (.aload_n 0, 1) := dk_42 (dk_at dksX2_put_4 6 rfl rfl)
theorem dX2_put_102 : decode cX2_put 102 = .ok (.dup, 1) := dk_89 (dk_at dksX2_put_4 7 rfl rfl)
theorem dX2_put_103 : decode cX2_put 103 = .ok (.getfield 114, 3) := dk_180 0 114 (dk_at dksX2_put_4 8 rfl rfl)
theorem dX2_put_106 : decode cX2_put 106 = .ok (.iconst 1, 1) := dk_4 (dk_at dksX2_put_4 11 rfl rfl)
theorem dX2_put_107 : decode cX2_put 107 = .ok (.iadd, 1) := dk_96 (dk_at dksX2_put_4 12 rfl rfl)
theorem dX2_put_108 : decode cX2_put 108 = .ok (.putfield 114, 3) := dk_181 0 114 (dk_at dksX2_put_4 13 rfl rfl)
theorem dX2_put_111 : decode cX2_put 111 = .ok (.iload_n 3, 1) := dk_29 (dk_at dksX2_put_4 16 rfl rfl)
theorem dX2_put_112 : decode cX2_put 112 = .ok (.ireturn, 1) := dk_172 (dk_at dksX2_put_4 17 rfl rfl)
abbrev cX2_violationAt : ByteArray := prog_12_method_34_code
def yX2_violationAt : MethodName := ⟨RX2, "violationAt", "(I)I"⟩
def dkwX2_violationAt_2 : List UInt8 := [132, 4, 1, 167, 255, 219, 132, 3, 1, 167, 255, 204, 3, 172]
abbrev dktX2_violationAt_2 : List UInt8 := dkwX2_violationAt_2 ++ []
def dkwX2_violationAt_1 : List UInt8 := [21, 4, 182, 0, 150, 153, 0, 18, 28, 154, 0, 11, 16, 100, 29, 104, 21, 4, 96, 172, 132, 2, 255]
abbrev dktX2_violationAt_1 : List UInt8 := dkwX2_violationAt_1 ++ dktX2_violationAt_2
def dkwX2_violationAt_0 : List UInt8 := [27, 61, 4, 62, 29, 16, 7, 163, 0, 52, 3, 54, 4, 21, 4, 42, 180, 0, 114, 162, 0, 34, 42, 29]
abbrev dktX2_violationAt_0 : List UInt8 := dkwX2_violationAt_0 ++ dktX2_violationAt_1
theorem dksX2_violationAt_0 : cX2_violationAt.data.toList.drop 0 = dktX2_violationAt_0 := by decide +kernel
theorem dksX2_violationAt_1 : cX2_violationAt.data.toList.drop 24 = dktX2_violationAt_1 := dk_seg dksX2_violationAt_0 24 rfl rfl
theorem dksX2_violationAt_2 : cX2_violationAt.data.toList.drop 47 = dktX2_violationAt_2 := dk_seg dksX2_violationAt_1 23 rfl rfl
theorem dX2_violationAt_0 : decode cX2_violationAt 0 = .ok (.iload_n 1, 1) := dk_27 (dk_at dksX2_violationAt_0 0 rfl rfl)
theorem dX2_violationAt_1 : decode cX2_violationAt 1 = .ok (.istore_n 2, 1) := dk_61 (dk_at dksX2_violationAt_0 1 rfl rfl)
theorem dX2_violationAt_2 : decode cX2_violationAt 2 = .ok (.iconst 1, 1) := dk_4 (dk_at dksX2_violationAt_0 2 rfl rfl)
theorem dX2_violationAt_3 : decode cX2_violationAt 3 = .ok (.istore_n 3, 1) := dk_62 (dk_at dksX2_violationAt_0 3 rfl rfl)
theorem dX2_violationAt_4 : decode cX2_violationAt 4 = .ok (.iload_n 3, 1) := dk_29 (dk_at dksX2_violationAt_0 4 rfl rfl)
theorem dX2_violationAt_5 : decode cX2_violationAt 5 = .ok (.bipush 7, 2) := dk_16 7 (dk_at dksX2_violationAt_0 5 rfl rfl)
theorem dX2_violationAt_7 : decode cX2_violationAt 7 = .ok (.if_icmp .gt 52, 3) := dk_163 0 52 (dk_at dksX2_violationAt_0 7 rfl rfl)
theorem dX2_violationAt_10 : decode cX2_violationAt 10 = .ok (.iconst 0, 1) := dk_3 (dk_at dksX2_violationAt_0 10 rfl rfl)
theorem dX2_violationAt_11 : decode cX2_violationAt 11 = .ok (.istore 4, 2) := dk_54 4 (dk_at dksX2_violationAt_0 11 rfl rfl)
theorem dX2_violationAt_13 : decode cX2_violationAt 13 = .ok (.iload 4, 2) := dk_21 4 (dk_at dksX2_violationAt_0 13 rfl rfl)
theorem dX2_violationAt_15 : decode cX2_violationAt 15 = .ok (.aload_n 0, 1) := dk_42 (dk_at dksX2_violationAt_0 15 rfl rfl)
theorem dX2_violationAt_16 : decode cX2_violationAt 16 = .ok (.getfield 114, 3) := dk_180 0 114 (dk_at dksX2_violationAt_0 16 rfl rfl)
theorem dX2_violationAt_19 : decode cX2_violationAt 19 = .ok (.if_icmp .ge 34, 3) := dk_162 0 34 (dk_at dksX2_violationAt_0 19 rfl rfl)
theorem dX2_violationAt_22 : decode cX2_violationAt 22 = .ok (.aload_n 0, 1) := dk_42 (dk_at dksX2_violationAt_0 22 rfl rfl)
theorem dX2_violationAt_23 : decode cX2_violationAt 23 = .ok (.iload_n 3, 1) := dk_29 (dk_at dksX2_violationAt_0 23 rfl rfl)
theorem dX2_violationAt_24 : decode cX2_violationAt 24 = .ok (.iload 4, 2) := dk_21 4 (dk_at dksX2_violationAt_1 0 rfl rfl)
theorem dX2_violationAt_26 : decode cX2_violationAt 26 = .ok (.invokevirtual 150, 3) := dk_182 0 150 (dk_at dksX2_violationAt_1 2 rfl rfl)
theorem dX2_violationAt_29 : decode cX2_violationAt 29 = .ok (.ifCond .eq 18, 3) := dk_153 0 18 (dk_at dksX2_violationAt_1 5 rfl rfl)
theorem dX2_violationAt_32 : decode cX2_violationAt 32 = .ok (.iload_n 2, 1) := dk_28 (dk_at dksX2_violationAt_1 8 rfl rfl)
theorem dX2_violationAt_33 : decode cX2_violationAt 33 = .ok (.ifCond .ne 11, 3) := dk_154 0 11 (dk_at dksX2_violationAt_1 9 rfl rfl)
theorem dX2_violationAt_36 : decode cX2_violationAt 36 = .ok (.bipush 100, 2) := dk_16 100 (dk_at dksX2_violationAt_1 12 rfl rfl)
theorem dX2_violationAt_38 : decode cX2_violationAt 38 = .ok (.iload_n 3, 1) := dk_29 (dk_at dksX2_violationAt_1 14 rfl rfl)
theorem dX2_violationAt_39 : decode cX2_violationAt 39 = .ok (.imul, 1) := dk_104 (dk_at dksX2_violationAt_1 15 rfl rfl)
theorem dX2_violationAt_40 : decode cX2_violationAt 40 = .ok (.iload 4, 2) := dk_21 4 (dk_at dksX2_violationAt_1 16 rfl rfl)
theorem dX2_violationAt_42 : decode cX2_violationAt 42 = .ok (.iadd, 1) := dk_96 (dk_at dksX2_violationAt_1 18 rfl rfl)
theorem dX2_violationAt_43 : decode cX2_violationAt 43 = .ok (.ireturn, 1) := dk_172 (dk_at dksX2_violationAt_1 19 rfl rfl)
theorem dX2_violationAt_44 : decode cX2_violationAt 44 = .ok (.iinc 2 (-1), 3) := dk_132 2 255 (dk_at dksX2_violationAt_1 20 rfl rfl)
theorem dX2_violationAt_47 : decode cX2_violationAt 47 = .ok (.iinc 4 1, 3) := dk_132 4 1 (dk_at dksX2_violationAt_2 0 rfl rfl)
theorem dX2_violationAt_50 : decode cX2_violationAt 50 = .ok (.goto (-37), 3) := dk_167 255 219 (dk_at dksX2_violationAt_2 3 rfl rfl)
theorem dX2_violationAt_53 : decode cX2_violationAt 53 = .ok (.iinc 3 1, 3) := dk_132 3 1 (dk_at dksX2_violationAt_2 6 rfl rfl)
theorem dX2_violationAt_56 : decode cX2_violationAt 56 = .ok (.goto (-52), 3) := dk_167 255 204 (dk_at dksX2_violationAt_2 9 rfl rfl)
theorem dX2_violationAt_59 : decode cX2_violationAt 59 = .ok (.iconst 0, 1) := dk_3 (dk_at dksX2_violationAt_2 12 rfl rfl)
theorem dX2_violationAt_60 : decode cX2_violationAt 60 = .ok (.ireturn, 1) := dk_172 (dk_at dksX2_violationAt_2 13 rfl rfl)
abbrev cX2_violates : ByteArray := prog_12_method_33_code
def yX2_violates : MethodName := ⟨RX2, "violates", "(II)Z"⟩
def dkwX2_violates_11 : List UInt8 := [164, 0, 7, 4, 167, 0, 4, 3, 172]
abbrev dktX2_violates_11 : List UInt8 := dkwX2_violates_11 ++ []
def dkwX2_violates_10 : List UInt8 := [42, 42, 42, 28, 182, 0, 120, 5, 182, 0, 63, 17, 5, 160, 182, 0, 147, 42, 180, 0, 9, 16, 7, 46]
abbrev dktX2_violates_10 : List UInt8 := dkwX2_violates_10 ++ dktX2_violates_11
def dkwX2_violates_9 : List UInt8 := [42, 180, 0, 9, 16, 6, 46, 164, 0, 7, 4, 167, 0, 4, 3, 172, 42, 28, 182, 0, 132, 153, 0, 34]
abbrev dktX2_violates_9 : List UInt8 := dkwX2_violates_9 ++ dktX2_violates_10
def dkwX2_violates_8 : List UInt8 := [164, 0, 7, 4, 167, 0, 4, 3, 172, 42, 28, 182, 0, 126, 153, 0, 24, 42, 28, 182, 0, 129, 28, 100]
abbrev dktX2_violates_8 : List UInt8 := dkwX2_violates_8 ++ dktX2_violates_9
def dkwX2_violates_7 : List UInt8 := [28, 182, 0, 126, 153, 0, 26, 42, 28, 42, 28, 182, 0, 129, 182, 0, 144, 42, 180, 0, 9, 8, 46]
abbrev dktX2_violates_7 : List UInt8 := dkwX2_violates_7 ++ dktX2_violates_8
def dkwX2_violates_6 : List UInt8 := [153, 0, 21, 42, 28, 182, 0, 141, 42, 180, 0, 9, 7, 46, 164, 0, 7, 4, 167, 0, 4, 3, 172, 42]
abbrev dktX2_violates_6 : List UInt8 := dkwX2_violates_6 ++ dktX2_violates_7
def dkwX2_violates_5 : List UInt8 := [180, 0, 9, 5, 46, 4, 100, 184, 0, 59, 153, 0, 7, 4, 167, 0, 4, 3, 172, 42, 28, 182, 0, 126]
abbrev dktX2_violates_5 : List UInt8 := dkwX2_violates_5 ++ dktX2_violates_6
def dkwX2_violates_4 : List UInt8 := [182, 0, 63, 159, 0, 7, 4, 167, 0, 4, 3, 172, 28, 158, 0, 27, 42, 28, 182, 0, 123, 3, 42]
abbrev dktX2_violates_4 : List UInt8 := dkwX2_violates_4 ++ dktX2_violates_5
def dkwX2_violates_3 : List UInt8 := [3, 182, 0, 63, 28, 154, 0, 10, 42, 180, 0, 117, 167, 0, 15, 42, 42, 28, 4, 100, 182, 0, 120, 4]
abbrev dktX2_violates_3 : List UInt8 := dkwX2_violates_3 ++ dktX2_violates_4
def dkwX2_violates_2 : List UInt8 := [28, 158, 0, 15, 42, 28, 182, 0, 123, 156, 0, 7, 4, 167, 0, 4, 3, 172, 42, 42, 28, 182, 0, 120]
abbrev dktX2_violates_2 : List UInt8 := dkwX2_violates_2 ++ dktX2_violates_3
def dkwX2_violates_1 : List UInt8 := [170, 0, 0, 0, 0, 0, 221, 0, 0, 0, 1, 0, 0, 0, 6, 0, 0, 0, 39, 0, 0, 0, 57, 0, 0, 0, 99, 0, 0, 0, 129, 0, 0, 0, 157, 0, 0, 0, 190]
abbrev dktX2_violates_1 : List UInt8 := dkwX2_violates_1 ++ dktX2_violates_2
def dkwX2_violates_0 : List UInt8 := [27]
abbrev dktX2_violates_0 : List UInt8 := dkwX2_violates_0 ++ dktX2_violates_1
theorem dksX2_violates_0 : cX2_violates.data.toList.drop 0 = dktX2_violates_0 := by decide +kernel
theorem dksX2_violates_1 : cX2_violates.data.toList.drop 1 = dktX2_violates_1 := dk_seg dksX2_violates_0 1 rfl rfl
theorem dksX2_violates_2 : cX2_violates.data.toList.drop 40 = dktX2_violates_2 := dk_seg dksX2_violates_1 39 rfl rfl
theorem dksX2_violates_3 : cX2_violates.data.toList.drop 64 = dktX2_violates_3 := dk_seg dksX2_violates_2 24 rfl rfl
theorem dksX2_violates_4 : cX2_violates.data.toList.drop 88 = dktX2_violates_4 := dk_seg dksX2_violates_3 24 rfl rfl
theorem dksX2_violates_5 : cX2_violates.data.toList.drop 111 = dktX2_violates_5 := dk_seg dksX2_violates_4 23 rfl rfl
theorem dksX2_violates_6 : cX2_violates.data.toList.drop 135 = dktX2_violates_6 := dk_seg dksX2_violates_5 24 rfl rfl
theorem dksX2_violates_7 : cX2_violates.data.toList.drop 159 = dktX2_violates_7 := dk_seg dksX2_violates_6 24 rfl rfl
theorem dksX2_violates_8 : cX2_violates.data.toList.drop 182 = dktX2_violates_8 := dk_seg dksX2_violates_7 23 rfl rfl
theorem dksX2_violates_9 : cX2_violates.data.toList.drop 206 = dktX2_violates_9 := dk_seg dksX2_violates_8 24 rfl rfl
theorem dksX2_violates_10 : cX2_violates.data.toList.drop 230 = dktX2_violates_10 := dk_seg dksX2_violates_9 24 rfl rfl
theorem dksX2_violates_11 : cX2_violates.data.toList.drop 254 = dktX2_violates_11 := dk_seg dksX2_violates_10 24 rfl rfl
theorem dX2_violates_0 : decode cX2_violates 0 = .ok (.iload_n 1, 1) := dk_27 (dk_at dksX2_violates_0 0 rfl rfl)
theorem dX2_violates_1 : decode cX2_violates 1 = .ok (.tableswitch 221 1 6 #[39, 57, 99, 129, 157, 190], 39) := by decide +kernel
theorem dX2_violates_40 : decode cX2_violates 40 = .ok (.iload_n 2, 1) := dk_28 (dk_at dksX2_violates_2 0 rfl rfl)
theorem dX2_violates_41 : decode cX2_violates 41 = .ok (.ifCond .le 15, 3) := dk_158 0 15 (dk_at dksX2_violates_2 1 rfl rfl)
theorem dX2_violates_44 : decode cX2_violates 44 = .ok (.aload_n 0, 1) := dk_42 (dk_at dksX2_violates_2 4 rfl rfl)
theorem dX2_violates_45 : decode cX2_violates 45 = .ok (.iload_n 2, 1) := dk_28 (dk_at dksX2_violates_2 5 rfl rfl)
theorem dX2_violates_46 : decode cX2_violates 46 = .ok (.invokevirtual 123, 3) := dk_182 0 123 (dk_at dksX2_violates_2 6 rfl rfl)
theorem dX2_violates_49 : decode cX2_violates 49 = .ok (.ifCond .ge 7, 3) := dk_156 0 7 (dk_at dksX2_violates_2 9 rfl rfl)
theorem dX2_violates_52 : decode cX2_violates 52 = .ok (.iconst 1, 1) := dk_4 (dk_at dksX2_violates_2 12 rfl rfl)
theorem dX2_violates_53 : decode cX2_violates 53 = .ok (.goto 4, 3) := dk_167 0 4 (dk_at dksX2_violates_2 13 rfl rfl)
theorem dX2_violates_56 : decode cX2_violates 56 = .ok (.iconst 0, 1) := dk_3 (dk_at dksX2_violates_2 16 rfl rfl)
theorem dX2_violates_57 : decode cX2_violates 57 = .ok (.ireturn, 1) := dk_172 (dk_at dksX2_violates_2 17 rfl rfl)
theorem dX2_violates_58 : decode cX2_violates 58 = .ok (.aload_n 0, 1) := dk_42 (dk_at dksX2_violates_2 18 rfl rfl)
theorem dX2_violates_59 : decode cX2_violates 59 = .ok (.aload_n 0, 1) := dk_42 (dk_at dksX2_violates_2 19 rfl rfl)
theorem dX2_violates_60 : decode cX2_violates 60 = .ok (.iload_n 2, 1) := dk_28 (dk_at dksX2_violates_2 20 rfl rfl)
theorem dX2_violates_61 : decode cX2_violates 61 = .ok (.invokevirtual 120, 3) := dk_182 0 120 (dk_at dksX2_violates_2 21 rfl rfl)
theorem dX2_violates_64 : decode cX2_violates 64 = .ok (.iconst 0, 1) := dk_3 (dk_at dksX2_violates_3 0 rfl rfl)
theorem dX2_violates_65 : decode cX2_violates 65 = .ok (.invokevirtual 63, 3) := dk_182 0 63 (dk_at dksX2_violates_3 1 rfl rfl)
theorem dX2_violates_68 : decode cX2_violates 68 = .ok (.iload_n 2, 1) := dk_28 (dk_at dksX2_violates_3 4 rfl rfl)
theorem dX2_violates_69 : decode cX2_violates 69 = .ok (.ifCond .ne 10, 3) := dk_154 0 10 (dk_at dksX2_violates_3 5 rfl rfl)
theorem dX2_violates_72 : decode cX2_violates 72 = .ok (.aload_n 0, 1) := dk_42 (dk_at dksX2_violates_3 8 rfl rfl)
theorem dX2_violates_73 : decode cX2_violates 73 = .ok (.getfield 117, 3) := dk_180 0 117 (dk_at dksX2_violates_3 9 rfl rfl)
theorem dX2_violates_76 : decode cX2_violates 76 = .ok (.goto 15, 3) := dk_167 0 15 (dk_at dksX2_violates_3 12 rfl rfl)
theorem dX2_violates_79 : decode cX2_violates 79 = .ok (.aload_n 0, 1) := dk_42 (dk_at dksX2_violates_3 15 rfl rfl)
theorem dX2_violates_80 : decode cX2_violates 80 = .ok (.aload_n 0, 1) := dk_42 (dk_at dksX2_violates_3 16 rfl rfl)
theorem dX2_violates_81 : decode cX2_violates 81 = .ok (.iload_n 2, 1) := dk_28 (dk_at dksX2_violates_3 17 rfl rfl)
theorem dX2_violates_82 : decode cX2_violates 82 = .ok (.iconst 1, 1) := dk_4 (dk_at dksX2_violates_3 18 rfl rfl)
theorem dX2_violates_83 : decode cX2_violates 83 = .ok (.isub, 1) := dk_100 (dk_at dksX2_violates_3 19 rfl rfl)
theorem dX2_violates_84 : decode cX2_violates 84 = .ok (.invokevirtual 120, 3) := dk_182 0 120 (dk_at dksX2_violates_3 20 rfl rfl)
theorem dX2_violates_87 : decode cX2_violates 87 = .ok (.iconst 1, 1) := dk_4 (dk_at dksX2_violates_3 23 rfl rfl)
theorem dX2_violates_88 : decode cX2_violates 88 = .ok (.invokevirtual 63, 3) := dk_182 0 63 (dk_at dksX2_violates_4 0 rfl rfl)
theorem dX2_violates_91 : decode cX2_violates 91 = .ok (.if_icmp .eq 7, 3) := dk_159 0 7 (dk_at dksX2_violates_4 3 rfl rfl)
theorem dX2_violates_94 : decode cX2_violates 94 = .ok (.iconst 1, 1) := dk_4 (dk_at dksX2_violates_4 6 rfl rfl)
theorem dX2_violates_95 : decode cX2_violates 95 = .ok (.goto 4, 3) := dk_167 0 4 (dk_at dksX2_violates_4 7 rfl rfl)
theorem dX2_violates_98 : decode cX2_violates 98 = .ok (.iconst 0, 1) := dk_3 (dk_at dksX2_violates_4 10 rfl rfl)
theorem dX2_violates_99 : decode cX2_violates 99 = .ok (.ireturn, 1) := dk_172 (dk_at dksX2_violates_4 11 rfl rfl)
theorem dX2_violates_100 : decode cX2_violates 100 = .ok (.iload_n 2, 1) := dk_28 (dk_at dksX2_violates_4 12 rfl rfl)
theorem dX2_violates_101 : decode cX2_violates 101 = .ok (.ifCond .le 27, 3) := dk_158 0 27 (dk_at dksX2_violates_4 13 rfl rfl)
theorem dX2_violates_104 : decode cX2_violates 104 = .ok (.aload_n 0, 1) := dk_42 (dk_at dksX2_violates_4 16 rfl rfl)
theorem dX2_violates_105 : decode cX2_violates 105 = .ok (.iload_n 2, 1) := dk_28 (dk_at dksX2_violates_4 17 rfl rfl)
theorem dX2_violates_106 : decode cX2_violates 106 = .ok (.invokevirtual 123, 3) := dk_182 0 123 (dk_at dksX2_violates_4 18 rfl rfl)
theorem dX2_violates_109 : decode cX2_violates 109 = .ok (.iconst 0, 1) := dk_3 (dk_at dksX2_violates_4 21 rfl rfl)
theorem dX2_violates_110 : decode cX2_violates 110 = .ok (.aload_n 0, 1) := dk_42 (dk_at dksX2_violates_4 22 rfl rfl)
theorem dX2_violates_111 : decode cX2_violates 111 = .ok (.getfield 9, 3) := dk_180 0 9 (dk_at dksX2_violates_5 0 rfl rfl)
theorem dX2_violates_114 : decode cX2_violates 114 = .ok (.iconst 2, 1) := dk_5 (dk_at dksX2_violates_5 3 rfl rfl)
theorem dX2_violates_115 : decode cX2_violates 115 = .ok (.iaload, 1) := dk_46 (dk_at dksX2_violates_5 4 rfl rfl)
theorem dX2_violates_116 : decode cX2_violates 116 = .ok (.iconst 1, 1) := dk_4 (dk_at dksX2_violates_5 5 rfl rfl)
theorem dX2_violates_117 : decode cX2_violates 117 = .ok (.isub, 1) := dk_100 (dk_at dksX2_violates_5 6 rfl rfl)
theorem dX2_violates_118 : decode cX2_violates 118 = .ok (.invokestatic 59, 3) := dk_184 0 59 (dk_at dksX2_violates_5 7 rfl rfl)
theorem dX2_violates_121 : decode cX2_violates 121 = .ok (.ifCond .eq 7, 3) := dk_153 0 7 (dk_at dksX2_violates_5 10 rfl rfl)
theorem dX2_violates_124 : decode cX2_violates 124 = .ok (.iconst 1, 1) := dk_4 (dk_at dksX2_violates_5 13 rfl rfl)
theorem dX2_violates_125 : decode cX2_violates 125 = .ok (.goto 4, 3) := dk_167 0 4 (dk_at dksX2_violates_5 14 rfl rfl)
theorem dX2_violates_128 : decode cX2_violates 128 = .ok (.iconst 0, 1) := dk_3 (dk_at dksX2_violates_5 17 rfl rfl)
theorem dX2_violates_129 : decode cX2_violates 129 = .ok (.ireturn, 1) := dk_172 (dk_at dksX2_violates_5 18 rfl rfl)
theorem dX2_violates_130 : decode cX2_violates 130 = .ok (.aload_n 0, 1) := dk_42 (dk_at dksX2_violates_5 19 rfl rfl)
theorem dX2_violates_131 : decode cX2_violates 131 = .ok (.iload_n 2, 1) := dk_28 (dk_at dksX2_violates_5 20 rfl rfl)
theorem dX2_violates_132 : decode cX2_violates 132 = .ok (.invokevirtual 126, 3) := dk_182 0 126 (dk_at dksX2_violates_5 21 rfl rfl)
theorem dX2_violates_135 : decode cX2_violates 135 = .ok (.ifCond .eq 21, 3) := dk_153 0 21 (dk_at dksX2_violates_6 0 rfl rfl)
theorem dX2_violates_138 : decode cX2_violates 138 = .ok (.aload_n 0, 1) := dk_42 (dk_at dksX2_violates_6 3 rfl rfl)
theorem dX2_violates_139 : decode cX2_violates 139 = .ok (.iload_n 2, 1) := dk_28 (dk_at dksX2_violates_6 4 rfl rfl)
theorem dX2_violates_140 : decode cX2_violates 140 = .ok (.invokevirtual 141, 3) := dk_182 0 141 (dk_at dksX2_violates_6 5 rfl rfl)
theorem dX2_violates_143 : decode cX2_violates 143 = .ok (.aload_n 0, 1) := dk_42 (dk_at dksX2_violates_6 8 rfl rfl)
theorem dX2_violates_144 : decode cX2_violates 144 = .ok (.getfield 9, 3) := dk_180 0 9 (dk_at dksX2_violates_6 9 rfl rfl)
theorem dX2_violates_147 : decode cX2_violates 147 = .ok (.iconst 4, 1) := dk_7 (dk_at dksX2_violates_6 12 rfl rfl)
theorem dX2_violates_148 : decode cX2_violates 148 = .ok (.iaload, 1) := dk_46 (dk_at dksX2_violates_6 13 rfl rfl)
theorem dX2_violates_149 : decode cX2_violates 149 = .ok (.if_icmp .le 7, 3) := dk_164 0 7 (dk_at dksX2_violates_6 14 rfl rfl)
theorem dX2_violates_152 : decode cX2_violates 152 = .ok (.iconst 1, 1) := dk_4 (dk_at dksX2_violates_6 17 rfl rfl)
theorem dX2_violates_153 : decode cX2_violates 153 = .ok (.goto 4, 3) := dk_167 0 4 (dk_at dksX2_violates_6 18 rfl rfl)
theorem dX2_violates_156 : decode cX2_violates 156 = .ok (.iconst 0, 1) := dk_3 (dk_at dksX2_violates_6 21 rfl rfl)
theorem dX2_violates_157 : decode cX2_violates 157 = .ok (.ireturn, 1) := dk_172 (dk_at dksX2_violates_6 22 rfl rfl)
theorem dX2_violates_158 : decode cX2_violates 158 = .ok (.aload_n 0, 1) := dk_42 (dk_at dksX2_violates_6 23 rfl rfl)
theorem dX2_violates_159 : decode cX2_violates 159 = .ok (.iload_n 2, 1) := dk_28 (dk_at dksX2_violates_7 0 rfl rfl)
theorem dX2_violates_160 : decode cX2_violates 160 = .ok (.invokevirtual 126, 3) := dk_182 0 126 (dk_at dksX2_violates_7 1 rfl rfl)
theorem dX2_violates_163 : decode cX2_violates 163 = .ok (.ifCond .eq 26, 3) := dk_153 0 26 (dk_at dksX2_violates_7 4 rfl rfl)
theorem dX2_violates_166 : decode cX2_violates 166 = .ok (.aload_n 0, 1) := dk_42 (dk_at dksX2_violates_7 7 rfl rfl)
theorem dX2_violates_167 : decode cX2_violates 167 = .ok (.iload_n 2, 1) := dk_28 (dk_at dksX2_violates_7 8 rfl rfl)
theorem dX2_violates_168 : decode cX2_violates 168 = .ok (.aload_n 0, 1) := dk_42 (dk_at dksX2_violates_7 9 rfl rfl)
theorem dX2_violates_169 : decode cX2_violates 169 = .ok (.iload_n 2, 1) := dk_28 (dk_at dksX2_violates_7 10 rfl rfl)
theorem dX2_violates_170 : decode cX2_violates 170 = .ok (.invokevirtual 129, 3) := dk_182 0 129 (dk_at dksX2_violates_7 11 rfl rfl)
theorem dX2_violates_173 : decode cX2_violates 173 = .ok (.invokevirtual 144, 3) := dk_182 0 144 (dk_at dksX2_violates_7 14 rfl rfl)
theorem dX2_violates_176 : decode cX2_violates 176 = .ok (.aload_n 0, 1) := dk_42 (dk_at dksX2_violates_7 17 rfl rfl)
theorem dX2_violates_177 : decode cX2_violates 177 = .ok (.getfield 9, 3) := dk_180 0 9 (dk_at dksX2_violates_7 18 rfl rfl)
theorem dX2_violates_180 : decode cX2_violates 180 = .ok (.iconst 5, 1) := dk_8 (dk_at dksX2_violates_7 21 rfl rfl)
theorem dX2_violates_181 : decode cX2_violates 181 = .ok (.iaload, 1) := dk_46 (dk_at dksX2_violates_7 22 rfl rfl)
theorem dX2_violates_182 : decode cX2_violates 182 = .ok (.if_icmp .le 7, 3) := dk_164 0 7 (dk_at dksX2_violates_8 0 rfl rfl)
theorem dX2_violates_185 : decode cX2_violates 185 = .ok (.iconst 1, 1) := dk_4 (dk_at dksX2_violates_8 3 rfl rfl)
theorem dX2_violates_186 : decode cX2_violates 186 = .ok (.goto 4, 3) := dk_167 0 4 (dk_at dksX2_violates_8 4 rfl rfl)
theorem dX2_violates_189 : decode cX2_violates 189 = .ok (.iconst 0, 1) := dk_3 (dk_at dksX2_violates_8 7 rfl rfl)
theorem dX2_violates_190 : decode cX2_violates 190 = .ok (.ireturn, 1) := dk_172 (dk_at dksX2_violates_8 8 rfl rfl)
theorem dX2_violates_191 : decode cX2_violates 191 = .ok (.aload_n 0, 1) := dk_42 (dk_at dksX2_violates_8 9 rfl rfl)
theorem dX2_violates_192 : decode cX2_violates 192 = .ok (.iload_n 2, 1) := dk_28 (dk_at dksX2_violates_8 10 rfl rfl)
theorem dX2_violates_193 : decode cX2_violates 193 = .ok (.invokevirtual 126, 3) := dk_182 0 126 (dk_at dksX2_violates_8 11 rfl rfl)
theorem dX2_violates_196 : decode cX2_violates 196 = .ok (.ifCond .eq 24, 3) := dk_153 0 24 (dk_at dksX2_violates_8 14 rfl rfl)
theorem dX2_violates_199 : decode cX2_violates 199 = .ok (.aload_n 0, 1) := dk_42 (dk_at dksX2_violates_8 17 rfl rfl)
theorem dX2_violates_200 : decode cX2_violates 200 = .ok (.iload_n 2, 1) := dk_28 (dk_at dksX2_violates_8 18 rfl rfl)
theorem dX2_violates_201 : decode cX2_violates 201 = .ok (.invokevirtual 129, 3) := dk_182 0 129 (dk_at dksX2_violates_8 19 rfl rfl)
theorem dX2_violates_204 : decode cX2_violates 204 = .ok (.iload_n 2, 1) := dk_28 (dk_at dksX2_violates_8 22 rfl rfl)
theorem dX2_violates_205 : decode cX2_violates 205 = .ok (.isub, 1) := dk_100 (dk_at dksX2_violates_8 23 rfl rfl)
theorem dX2_violates_206 : decode cX2_violates 206 = .ok (.aload_n 0, 1) := dk_42 (dk_at dksX2_violates_9 0 rfl rfl)
theorem dX2_violates_207 : decode cX2_violates 207 = .ok (.getfield 9, 3) := dk_180 0 9 (dk_at dksX2_violates_9 1 rfl rfl)
theorem dX2_violates_210 : decode cX2_violates 210 = .ok (.bipush 6, 2) := dk_16 6 (dk_at dksX2_violates_9 4 rfl rfl)
theorem dX2_violates_212 : decode cX2_violates 212 = .ok (.iaload, 1) := dk_46 (dk_at dksX2_violates_9 6 rfl rfl)
theorem dX2_violates_213 : decode cX2_violates 213 = .ok (.if_icmp .le 7, 3) := dk_164 0 7 (dk_at dksX2_violates_9 7 rfl rfl)
theorem dX2_violates_216 : decode cX2_violates 216 = .ok (.iconst 1, 1) := dk_4 (dk_at dksX2_violates_9 10 rfl rfl)
theorem dX2_violates_217 : decode cX2_violates 217 = .ok (.goto 4, 3) := dk_167 0 4 (dk_at dksX2_violates_9 11 rfl rfl)
theorem dX2_violates_220 : decode cX2_violates 220 = .ok (.iconst 0, 1) := dk_3 (dk_at dksX2_violates_9 14 rfl rfl)
theorem dX2_violates_221 : decode cX2_violates 221 = .ok (.ireturn, 1) := dk_172 (dk_at dksX2_violates_9 15 rfl rfl)
theorem dX2_violates_222 : decode cX2_violates 222 = .ok (.aload_n 0, 1) := dk_42 (dk_at dksX2_violates_9 16 rfl rfl)
theorem dX2_violates_223 : decode cX2_violates 223 = .ok (.iload_n 2, 1) := dk_28 (dk_at dksX2_violates_9 17 rfl rfl)
theorem dX2_violates_224 : decode cX2_violates 224 = .ok (.invokevirtual 132, 3) := dk_182 0 132 (dk_at dksX2_violates_9 18 rfl rfl)
theorem dX2_violates_227 : decode cX2_violates 227 = .ok (.ifCond .eq 34, 3) := dk_153 0 34 (dk_at dksX2_violates_9 21 rfl rfl)
theorem dX2_violates_230 : decode cX2_violates 230 = .ok (.aload_n 0, 1) := dk_42 (dk_at dksX2_violates_10 0 rfl rfl)
theorem dX2_violates_231 : decode cX2_violates 231 = .ok (.aload_n 0, 1) := dk_42 (dk_at dksX2_violates_10 1 rfl rfl)
theorem dX2_violates_232 : decode cX2_violates 232 = .ok (.aload_n 0, 1) := dk_42 (dk_at dksX2_violates_10 2 rfl rfl)
theorem dX2_violates_233 : decode cX2_violates 233 = .ok (.iload_n 2, 1) := dk_28 (dk_at dksX2_violates_10 3 rfl rfl)
theorem dX2_violates_234 : decode cX2_violates 234 = .ok (.invokevirtual 120, 3) := dk_182 0 120 (dk_at dksX2_violates_10 4 rfl rfl)
theorem dX2_violates_237 : decode cX2_violates 237 = .ok (.iconst 2, 1) := dk_5 (dk_at dksX2_violates_10 7 rfl rfl)
theorem dX2_violates_238 : decode cX2_violates 238 = .ok (.invokevirtual 63, 3) := dk_182 0 63 (dk_at dksX2_violates_10 8 rfl rfl)
theorem dX2_violates_241 : decode cX2_violates 241 = .ok (.sipush 1440, 3) := dk_17 5 160 (dk_at dksX2_violates_10 11 rfl rfl)
theorem dX2_violates_244 : decode cX2_violates 244 = .ok (.invokevirtual 147, 3) := dk_182 0 147 (dk_at dksX2_violates_10 14 rfl rfl)
theorem dX2_violates_247 : decode cX2_violates 247 = .ok (.aload_n 0, 1) := dk_42 (dk_at dksX2_violates_10 17 rfl rfl)
theorem dX2_violates_248 : decode cX2_violates 248 = .ok (.getfield 9, 3) := dk_180 0 9 (dk_at dksX2_violates_10 18 rfl rfl)
theorem dX2_violates_251 : decode cX2_violates 251 = .ok (.bipush 7, 2) := dk_16 7 (dk_at dksX2_violates_10 21 rfl rfl)
theorem dX2_violates_253 : decode cX2_violates 253 = .ok (.iaload, 1) := dk_46 (dk_at dksX2_violates_10 23 rfl rfl)
theorem dX2_violates_254 : decode cX2_violates 254 = .ok (.if_icmp .le 7, 3) := dk_164 0 7 (dk_at dksX2_violates_11 0 rfl rfl)
theorem dX2_violates_257 : decode cX2_violates 257 = .ok (.iconst 1, 1) := dk_4 (dk_at dksX2_violates_11 3 rfl rfl)
theorem dX2_violates_258 : decode cX2_violates 258 = .ok (.goto 4, 3) := dk_167 0 4 (dk_at dksX2_violates_11 4 rfl rfl)
theorem dX2_violates_261 : decode cX2_violates 261 = .ok (.iconst 0, 1) := dk_3 (dk_at dksX2_violates_11 7 rfl rfl)
theorem dX2_violates_262 : decode cX2_violates 262 = .ok (.ireturn, 1) := dk_172 (dk_at dksX2_violates_11 8 rfl rfl)
abbrev cX2_gapBefore : ByteArray := prog_12_method_27_code
def yX2_gapBefore : MethodName := ⟨RX2, "gapBefore", "(I)I"⟩
def dkwX2_gapBefore_0 : List UInt8 := [42, 42, 27, 182, 0, 120, 5, 182, 0, 63, 42, 42, 27, 4, 100, 182, 0, 120, 6, 182, 0, 63, 100, 172]
abbrev dktX2_gapBefore_0 : List UInt8 := dkwX2_gapBefore_0 ++ []
theorem dksX2_gapBefore_0 : cX2_gapBefore.data.toList.drop 0 = dktX2_gapBefore_0 := by decide +kernel
theorem dX2_gapBefore_0 : decode cX2_gapBefore 0 = .ok (.aload_n 0, 1) := dk_42 (dk_at dksX2_gapBefore_0 0 rfl rfl)
theorem dX2_gapBefore_1 : decode cX2_gapBefore 1 = .ok (.aload_n 0, 1) := dk_42 (dk_at dksX2_gapBefore_0 1 rfl rfl)
theorem dX2_gapBefore_2 : decode cX2_gapBefore 2 = .ok (.iload_n 1, 1) := dk_27 (dk_at dksX2_gapBefore_0 2 rfl rfl)
theorem dX2_gapBefore_3 : decode cX2_gapBefore 3 = .ok (.invokevirtual 120, 3) := dk_182 0 120 (dk_at dksX2_gapBefore_0 3 rfl rfl)
theorem dX2_gapBefore_6 : decode cX2_gapBefore 6 = .ok (.iconst 2, 1) := dk_5 (dk_at dksX2_gapBefore_0 6 rfl rfl)
theorem dX2_gapBefore_7 : decode cX2_gapBefore 7 = .ok (.invokevirtual 63, 3) := dk_182 0 63 (dk_at dksX2_gapBefore_0 7 rfl rfl)
theorem dX2_gapBefore_10 : decode cX2_gapBefore 10 = .ok (.aload_n 0, 1) := dk_42 (dk_at dksX2_gapBefore_0 10 rfl rfl)
theorem dX2_gapBefore_11 : decode cX2_gapBefore 11 = .ok (.aload_n 0, 1) := dk_42 (dk_at dksX2_gapBefore_0 11 rfl rfl)
theorem dX2_gapBefore_12 : decode cX2_gapBefore 12 = .ok (.iload_n 1, 1) := dk_27 (dk_at dksX2_gapBefore_0 12 rfl rfl)
theorem dX2_gapBefore_13 : decode cX2_gapBefore 13 = .ok (.iconst 1, 1) := dk_4 (dk_at dksX2_gapBefore_0 13 rfl rfl)
theorem dX2_gapBefore_14 : decode cX2_gapBefore 14 = .ok (.isub, 1) := dk_100 (dk_at dksX2_gapBefore_0 14 rfl rfl)
theorem dX2_gapBefore_15 : decode cX2_gapBefore 15 = .ok (.invokevirtual 120, 3) := dk_182 0 120 (dk_at dksX2_gapBefore_0 15 rfl rfl)
theorem dX2_gapBefore_18 : decode cX2_gapBefore 18 = .ok (.iconst 3, 1) := dk_6 (dk_at dksX2_gapBefore_0 18 rfl rfl)
theorem dX2_gapBefore_19 : decode cX2_gapBefore 19 = .ok (.invokevirtual 63, 3) := dk_182 0 63 (dk_at dksX2_gapBefore_0 19 rfl rfl)
theorem dX2_gapBefore_22 : decode cX2_gapBefore 22 = .ok (.isub, 1) := dk_100 (dk_at dksX2_gapBefore_0 22 rfl rfl)
theorem dX2_gapBefore_23 : decode cX2_gapBefore 23 = .ok (.ireturn, 1) := dk_172 (dk_at dksX2_gapBefore_0 23 rfl rfl)
abbrev cX2_beginsDuty : ByteArray := prog_12_method_28_code
def yX2_beginsDuty : MethodName := ⟨RX2, "beginsDuty", "(I)Z"⟩
def dkwX2_beginsDuty_0 : List UInt8 := [27, 153, 0, 17, 42, 27, 182, 0, 123, 42, 180, 0, 9, 6, 46, 161, 0, 7, 4, 167, 0, 4, 3, 172]
abbrev dktX2_beginsDuty_0 : List UInt8 := dkwX2_beginsDuty_0 ++ []
theorem dksX2_beginsDuty_0 : cX2_beginsDuty.data.toList.drop 0 = dktX2_beginsDuty_0 := by decide +kernel
theorem dX2_beginsDuty_0 : decode cX2_beginsDuty 0 = .ok (.iload_n 1, 1) := dk_27 (dk_at dksX2_beginsDuty_0 0 rfl rfl)
theorem dX2_beginsDuty_1 : decode cX2_beginsDuty 1 = .ok (.ifCond .eq 17, 3) := dk_153 0 17 (dk_at dksX2_beginsDuty_0 1 rfl rfl)
theorem dX2_beginsDuty_4 : decode cX2_beginsDuty 4 = .ok (.aload_n 0, 1) := dk_42 (dk_at dksX2_beginsDuty_0 4 rfl rfl)
theorem dX2_beginsDuty_5 : decode cX2_beginsDuty 5 = .ok (.iload_n 1, 1) := dk_27 (dk_at dksX2_beginsDuty_0 5 rfl rfl)
theorem dX2_beginsDuty_6 : decode cX2_beginsDuty 6 = .ok (.invokevirtual 123, 3) := dk_182 0 123 (dk_at dksX2_beginsDuty_0 6 rfl rfl)
theorem dX2_beginsDuty_9 : decode cX2_beginsDuty 9 = .ok (.aload_n 0, 1) := dk_42 (dk_at dksX2_beginsDuty_0 9 rfl rfl)
theorem dX2_beginsDuty_10 : decode cX2_beginsDuty 10 = .ok (.getfield 9, 3) := dk_180 0 9 (dk_at dksX2_beginsDuty_0 10 rfl rfl)
theorem dX2_beginsDuty_13 : decode cX2_beginsDuty 13 = .ok (.iconst 3, 1) := dk_6 (dk_at dksX2_beginsDuty_0 13 rfl rfl)
theorem dX2_beginsDuty_14 : decode cX2_beginsDuty 14 = .ok (.iaload, 1) := dk_46 (dk_at dksX2_beginsDuty_0 14 rfl rfl)
theorem dX2_beginsDuty_15 : decode cX2_beginsDuty 15 = .ok (.if_icmp .lt 7, 3) := dk_161 0 7 (dk_at dksX2_beginsDuty_0 15 rfl rfl)
theorem dX2_beginsDuty_18 : decode cX2_beginsDuty 18 = .ok (.iconst 1, 1) := dk_4 (dk_at dksX2_beginsDuty_0 18 rfl rfl)
theorem dX2_beginsDuty_19 : decode cX2_beginsDuty 19 = .ok (.goto 4, 3) := dk_167 0 4 (dk_at dksX2_beginsDuty_0 19 rfl rfl)
theorem dX2_beginsDuty_22 : decode cX2_beginsDuty 22 = .ok (.iconst 0, 1) := dk_3 (dk_at dksX2_beginsDuty_0 22 rfl rfl)
theorem dX2_beginsDuty_23 : decode cX2_beginsDuty 23 = .ok (.ireturn, 1) := dk_172 (dk_at dksX2_beginsDuty_0 23 rfl rfl)
abbrev cX2_dutyMinutes : ByteArray := prog_12_method_30_code
def yX2_dutyMinutes : MethodName := ⟨RX2, "dutyMinutes", "(I)I"⟩
def dkwX2_dutyMinutes_1 : List UInt8 := [182, 0, 63, 100, 172]
abbrev dktX2_dutyMinutes_1 : List UInt8 := dkwX2_dutyMinutes_1 ++ []
def dkwX2_dutyMinutes_0 : List UInt8 := [42, 42, 42, 27, 182, 0, 129, 4, 100, 182, 0, 120, 6, 182, 0, 63, 42, 42, 27, 182, 0, 120, 5]
abbrev dktX2_dutyMinutes_0 : List UInt8 := dkwX2_dutyMinutes_0 ++ dktX2_dutyMinutes_1
theorem dksX2_dutyMinutes_0 : cX2_dutyMinutes.data.toList.drop 0 = dktX2_dutyMinutes_0 := by decide +kernel
theorem dksX2_dutyMinutes_1 : cX2_dutyMinutes.data.toList.drop 23 = dktX2_dutyMinutes_1 := dk_seg dksX2_dutyMinutes_0 23 rfl rfl
theorem dX2_dutyMinutes_0 : decode cX2_dutyMinutes 0 = .ok (.aload_n 0, 1) := dk_42 (dk_at dksX2_dutyMinutes_0 0 rfl rfl)
theorem dX2_dutyMinutes_1 : decode cX2_dutyMinutes 1 = .ok (.aload_n 0, 1) := dk_42 (dk_at dksX2_dutyMinutes_0 1 rfl rfl)
theorem dX2_dutyMinutes_2 : decode cX2_dutyMinutes 2 = .ok (.aload_n 0, 1) := dk_42 (dk_at dksX2_dutyMinutes_0 2 rfl rfl)
theorem dX2_dutyMinutes_3 : decode cX2_dutyMinutes 3 = .ok (.iload_n 1, 1) := dk_27 (dk_at dksX2_dutyMinutes_0 3 rfl rfl)
theorem dX2_dutyMinutes_4 : decode cX2_dutyMinutes 4 = .ok (.invokevirtual 129, 3) := dk_182 0 129 (dk_at dksX2_dutyMinutes_0 4 rfl rfl)
theorem dX2_dutyMinutes_7 : decode cX2_dutyMinutes 7 = .ok (.iconst 1, 1) := dk_4 (dk_at dksX2_dutyMinutes_0 7 rfl rfl)
theorem dX2_dutyMinutes_8 : decode cX2_dutyMinutes 8 = .ok (.isub, 1) := dk_100 (dk_at dksX2_dutyMinutes_0 8 rfl rfl)
theorem dX2_dutyMinutes_9 : decode cX2_dutyMinutes 9 = .ok (.invokevirtual 120, 3) := dk_182 0 120 (dk_at dksX2_dutyMinutes_0 9 rfl rfl)
theorem dX2_dutyMinutes_12 : decode cX2_dutyMinutes 12 = .ok (.iconst 3, 1) := dk_6 (dk_at dksX2_dutyMinutes_0 12 rfl rfl)
theorem dX2_dutyMinutes_13 : decode cX2_dutyMinutes 13 = .ok (.invokevirtual 63, 3) := dk_182 0 63 (dk_at dksX2_dutyMinutes_0 13 rfl rfl)
theorem dX2_dutyMinutes_16 : decode cX2_dutyMinutes 16 = .ok (.aload_n 0, 1) := dk_42 (dk_at dksX2_dutyMinutes_0 16 rfl rfl)
theorem dX2_dutyMinutes_17 : decode cX2_dutyMinutes 17 = .ok (.aload_n 0, 1) := dk_42 (dk_at dksX2_dutyMinutes_0 17 rfl rfl)
theorem dX2_dutyMinutes_18 : decode cX2_dutyMinutes 18 = .ok (.iload_n 1, 1) := dk_27 (dk_at dksX2_dutyMinutes_0 18 rfl rfl)
theorem dX2_dutyMinutes_19 : decode cX2_dutyMinutes 19 = .ok (.invokevirtual 120, 3) := dk_182 0 120 (dk_at dksX2_dutyMinutes_0 19 rfl rfl)
theorem dX2_dutyMinutes_22 : decode cX2_dutyMinutes 22 = .ok (.iconst 2, 1) := dk_5 (dk_at dksX2_dutyMinutes_0 22 rfl rfl)
theorem dX2_dutyMinutes_23 : decode cX2_dutyMinutes 23 = .ok (.invokevirtual 63, 3) := dk_182 0 63 (dk_at dksX2_dutyMinutes_1 0 rfl rfl)
theorem dX2_dutyMinutes_26 : decode cX2_dutyMinutes 26 = .ok (.isub, 1) := dk_100 (dk_at dksX2_dutyMinutes_1 3 rfl rfl)
theorem dX2_dutyMinutes_27 : decode cX2_dutyMinutes 27 = .ok (.ireturn, 1) := dk_172 (dk_at dksX2_dutyMinutes_1 4 rfl rfl)
abbrev cX2_dutyEnd : ByteArray := prog_12_method_29_code
def yX2_dutyEnd : MethodName := ⟨RX2, "dutyEnd", "(I)I"⟩
def dkwX2_dutyEnd_1 : List UInt8 := [167, 255, 237, 28, 172]
abbrev dktX2_dutyEnd_1 : List UInt8 := dkwX2_dutyEnd_1 ++ []
def dkwX2_dutyEnd_0 : List UInt8 := [27, 4, 96, 61, 28, 42, 180, 0, 114, 162, 0, 17, 42, 28, 182, 0, 126, 154, 0, 9, 132, 2, 1]
abbrev dktX2_dutyEnd_0 : List UInt8 := dkwX2_dutyEnd_0 ++ dktX2_dutyEnd_1
theorem dksX2_dutyEnd_0 : cX2_dutyEnd.data.toList.drop 0 = dktX2_dutyEnd_0 := by decide +kernel
theorem dksX2_dutyEnd_1 : cX2_dutyEnd.data.toList.drop 23 = dktX2_dutyEnd_1 := dk_seg dksX2_dutyEnd_0 23 rfl rfl
theorem dX2_dutyEnd_0 : decode cX2_dutyEnd 0 = .ok (.iload_n 1, 1) := dk_27 (dk_at dksX2_dutyEnd_0 0 rfl rfl)
theorem dX2_dutyEnd_1 : decode cX2_dutyEnd 1 = .ok (.iconst 1, 1) := dk_4 (dk_at dksX2_dutyEnd_0 1 rfl rfl)
theorem dX2_dutyEnd_2 : decode cX2_dutyEnd 2 = .ok (.iadd, 1) := dk_96 (dk_at dksX2_dutyEnd_0 2 rfl rfl)
theorem dX2_dutyEnd_3 : decode cX2_dutyEnd 3 = .ok (.istore_n 2, 1) := dk_61 (dk_at dksX2_dutyEnd_0 3 rfl rfl)
theorem dX2_dutyEnd_4 : decode cX2_dutyEnd 4 = .ok (.iload_n 2, 1) := dk_28 (dk_at dksX2_dutyEnd_0 4 rfl rfl)
theorem dX2_dutyEnd_5 : decode cX2_dutyEnd 5 = .ok (.aload_n 0, 1) := dk_42 (dk_at dksX2_dutyEnd_0 5 rfl rfl)
theorem dX2_dutyEnd_6 : decode cX2_dutyEnd 6 = .ok (.getfield 114, 3) := dk_180 0 114 (dk_at dksX2_dutyEnd_0 6 rfl rfl)
theorem dX2_dutyEnd_9 : decode cX2_dutyEnd 9 = .ok (.if_icmp .ge 17, 3) := dk_162 0 17 (dk_at dksX2_dutyEnd_0 9 rfl rfl)
theorem dX2_dutyEnd_12 : decode cX2_dutyEnd 12 = .ok (.aload_n 0, 1) := dk_42 (dk_at dksX2_dutyEnd_0 12 rfl rfl)
theorem dX2_dutyEnd_13 : decode cX2_dutyEnd 13 = .ok (.iload_n 2, 1) := dk_28 (dk_at dksX2_dutyEnd_0 13 rfl rfl)
theorem dX2_dutyEnd_14 : decode cX2_dutyEnd 14 = .ok (.invokevirtual 126, 3) := dk_182 0 126 (dk_at dksX2_dutyEnd_0 14 rfl rfl)
theorem dX2_dutyEnd_17 : decode cX2_dutyEnd 17 = .ok (.ifCond .ne 9, 3) := dk_154 0 9 (dk_at dksX2_dutyEnd_0 17 rfl rfl)
theorem dX2_dutyEnd_20 : decode cX2_dutyEnd 20 = .ok (.iinc 2 1, 3) := dk_132 2 1 (dk_at dksX2_dutyEnd_0 20 rfl rfl)
theorem dX2_dutyEnd_23 : decode cX2_dutyEnd 23 = .ok (.goto (-19), 3) := dk_167 255 237 (dk_at dksX2_dutyEnd_1 0 rfl rfl)
theorem dX2_dutyEnd_26 : decode cX2_dutyEnd 26 = .ok (.iload_n 2, 1) := dk_28 (dk_at dksX2_dutyEnd_1 3 rfl rfl)
theorem dX2_dutyEnd_27 : decode cX2_dutyEnd 27 = .ok (.ireturn, 1) := dk_172 (dk_at dksX2_dutyEnd_1 4 rfl rfl)
abbrev cX2_flownFrom : ByteArray := prog_12_method_31_code
def yX2_flownFrom : MethodName := ⟨RX2, "flownFrom", "(II)I"⟩
def dkwX2_flownFrom_1 : List UInt8 := [21, 4, 182, 0, 120, 182, 0, 135, 167, 0, 4, 3, 96, 62, 132, 4, 1, 167, 255, 221, 29, 172]
abbrev dktX2_flownFrom_1 : List UInt8 := dkwX2_flownFrom_1 ++ []
def dkwX2_flownFrom_0 : List UInt8 := [3, 62, 27, 54, 4, 21, 4, 28, 162, 0, 35, 29, 42, 21, 4, 182, 0, 132, 153, 0, 16, 42, 42]
abbrev dktX2_flownFrom_0 : List UInt8 := dkwX2_flownFrom_0 ++ dktX2_flownFrom_1
theorem dksX2_flownFrom_0 : cX2_flownFrom.data.toList.drop 0 = dktX2_flownFrom_0 := by decide +kernel
theorem dksX2_flownFrom_1 : cX2_flownFrom.data.toList.drop 23 = dktX2_flownFrom_1 := dk_seg dksX2_flownFrom_0 23 rfl rfl
theorem dX2_flownFrom_0 : decode cX2_flownFrom 0 = .ok (.iconst 0, 1) := dk_3 (dk_at dksX2_flownFrom_0 0 rfl rfl)
theorem dX2_flownFrom_1 : decode cX2_flownFrom 1 = .ok (.istore_n 3, 1) := dk_62 (dk_at dksX2_flownFrom_0 1 rfl rfl)
theorem dX2_flownFrom_2 : decode cX2_flownFrom 2 = .ok (.iload_n 1, 1) := dk_27 (dk_at dksX2_flownFrom_0 2 rfl rfl)
theorem dX2_flownFrom_3 : decode cX2_flownFrom 3 = .ok (.istore 4, 2) := dk_54 4 (dk_at dksX2_flownFrom_0 3 rfl rfl)
theorem dX2_flownFrom_5 : decode cX2_flownFrom 5 = .ok (.iload 4, 2) := dk_21 4 (dk_at dksX2_flownFrom_0 5 rfl rfl)
theorem dX2_flownFrom_7 : decode cX2_flownFrom 7 = .ok (.iload_n 2, 1) := dk_28 (dk_at dksX2_flownFrom_0 7 rfl rfl)
theorem dX2_flownFrom_8 : decode cX2_flownFrom 8 = .ok (.if_icmp .ge 35, 3) := dk_162 0 35 (dk_at dksX2_flownFrom_0 8 rfl rfl)
theorem dX2_flownFrom_11 : decode cX2_flownFrom 11 = .ok (.iload_n 3, 1) := dk_29 (dk_at dksX2_flownFrom_0 11 rfl rfl)
theorem dX2_flownFrom_12 : decode cX2_flownFrom 12 = .ok (.aload_n 0, 1) := dk_42 (dk_at dksX2_flownFrom_0 12 rfl rfl)
theorem dX2_flownFrom_13 : decode cX2_flownFrom 13 = .ok (.iload 4, 2) := dk_21 4 (dk_at dksX2_flownFrom_0 13 rfl rfl)
theorem dX2_flownFrom_15 : decode cX2_flownFrom 15 = .ok (.invokevirtual 132, 3) := dk_182 0 132 (dk_at dksX2_flownFrom_0 15 rfl rfl)
theorem dX2_flownFrom_18 : decode cX2_flownFrom 18 = .ok (.ifCond .eq 16, 3) := dk_153 0 16 (dk_at dksX2_flownFrom_0 18 rfl rfl)
theorem dX2_flownFrom_21 : decode cX2_flownFrom 21 = .ok (.aload_n 0, 1) := dk_42 (dk_at dksX2_flownFrom_0 21 rfl rfl)
theorem dX2_flownFrom_22 : decode cX2_flownFrom 22 = .ok (.aload_n 0, 1) := dk_42 (dk_at dksX2_flownFrom_0 22 rfl rfl)
theorem dX2_flownFrom_23 : decode cX2_flownFrom 23 = .ok (.iload 4, 2) := dk_21 4 (dk_at dksX2_flownFrom_1 0 rfl rfl)
theorem dX2_flownFrom_25 : decode cX2_flownFrom 25 = .ok (.invokevirtual 120, 3) := dk_182 0 120 (dk_at dksX2_flownFrom_1 2 rfl rfl)
theorem dX2_flownFrom_28 : decode cX2_flownFrom 28 = .ok (.invokevirtual 135, 3) := dk_182 0 135 (dk_at dksX2_flownFrom_1 5 rfl rfl)
theorem dX2_flownFrom_31 : decode cX2_flownFrom 31 = .ok (.goto 4, 3) := dk_167 0 4 (dk_at dksX2_flownFrom_1 8 rfl rfl)
theorem dX2_flownFrom_34 : decode cX2_flownFrom 34 = .ok (.iconst 0, 1) := dk_3 (dk_at dksX2_flownFrom_1 11 rfl rfl)
theorem dX2_flownFrom_35 : decode cX2_flownFrom 35 = .ok (.iadd, 1) := dk_96 (dk_at dksX2_flownFrom_1 12 rfl rfl)
theorem dX2_flownFrom_36 : decode cX2_flownFrom 36 = .ok (.istore_n 3, 1) := dk_62 (dk_at dksX2_flownFrom_1 13 rfl rfl)
theorem dX2_flownFrom_37 : decode cX2_flownFrom 37 = .ok (.iinc 4 1, 3) := dk_132 4 1 (dk_at dksX2_flownFrom_1 14 rfl rfl)
theorem dX2_flownFrom_40 : decode cX2_flownFrom 40 = .ok (.goto (-35), 3) := dk_167 255 221 (dk_at dksX2_flownFrom_1 17 rfl rfl)
theorem dX2_flownFrom_43 : decode cX2_flownFrom 43 = .ok (.iload_n 3, 1) := dk_29 (dk_at dksX2_flownFrom_1 20 rfl rfl)
theorem dX2_flownFrom_44 : decode cX2_flownFrom 44 = .ok (.ireturn, 1) := dk_172 (dk_at dksX2_flownFrom_1 21 rfl rfl)
abbrev cX2_isFlown : ByteArray := prog_12_method_24_code
def yX2_isFlown : MethodName := ⟨RX2, "isFlown", "(I)Z"⟩
def dkwX2_isFlown_0 : List UInt8 := [42, 180, 0, 22, 27, 46, 5, 112, 4, 160, 0, 7, 4, 167, 0, 4, 3, 172]
abbrev dktX2_isFlown_0 : List UInt8 := dkwX2_isFlown_0 ++ []
theorem dksX2_isFlown_0 : cX2_isFlown.data.toList.drop 0 = dktX2_isFlown_0 := by decide +kernel
theorem dX2_isFlown_0 : decode cX2_isFlown 0 = .ok (.aload_n 0, 1) := dk_42 (dk_at dksX2_isFlown_0 0 rfl rfl)
theorem dX2_isFlown_1 : decode cX2_isFlown 1 = .ok (.getfield 22, 3) := dk_180 0 22 (dk_at dksX2_isFlown_0 1 rfl rfl)
theorem dX2_isFlown_4 : decode cX2_isFlown 4 = .ok (.iload_n 1, 1) := dk_27 (dk_at dksX2_isFlown_0 4 rfl rfl)
theorem dX2_isFlown_5 : decode cX2_isFlown 5 = .ok (.iaload, 1) := dk_46 (dk_at dksX2_isFlown_0 5 rfl rfl)
theorem dX2_isFlown_6 : decode cX2_isFlown 6 = .ok (.iconst 2, 1) := dk_5 (dk_at dksX2_isFlown_0 6 rfl rfl)
theorem dX2_isFlown_7 : decode cX2_isFlown 7 = .ok (.irem, 1) := dk_112 (dk_at dksX2_isFlown_0 7 rfl rfl)
theorem dX2_isFlown_8 : decode cX2_isFlown 8 = .ok (.iconst 1, 1) := dk_4 (dk_at dksX2_isFlown_0 8 rfl rfl)
theorem dX2_isFlown_9 : decode cX2_isFlown 9 = .ok (.if_icmp .ne 7, 3) := dk_160 0 7 (dk_at dksX2_isFlown_0 9 rfl rfl)
theorem dX2_isFlown_12 : decode cX2_isFlown 12 = .ok (.iconst 1, 1) := dk_4 (dk_at dksX2_isFlown_0 12 rfl rfl)
theorem dX2_isFlown_13 : decode cX2_isFlown 13 = .ok (.goto 4, 3) := dk_167 0 4 (dk_at dksX2_isFlown_0 13 rfl rfl)
theorem dX2_isFlown_16 : decode cX2_isFlown 16 = .ok (.iconst 0, 1) := dk_3 (dk_at dksX2_isFlown_0 16 rfl rfl)
theorem dX2_isFlown_17 : decode cX2_isFlown 17 = .ok (.ireturn, 1) := dk_172 (dk_at dksX2_isFlown_0 17 rfl rfl)
abbrev cX2_lengthOf : ByteArray := prog_12_method_6_code
def yX2_lengthOf : MethodName := ⟨RX2, "lengthOf", "(I)I"⟩
def dkwX2_lengthOf_0 : List UInt8 := [42, 27, 6, 182, 0, 63, 42, 27, 5, 182, 0, 63, 100, 172]
abbrev dktX2_lengthOf_0 : List UInt8 := dkwX2_lengthOf_0 ++ []
theorem dksX2_lengthOf_0 : cX2_lengthOf.data.toList.drop 0 = dktX2_lengthOf_0 := by decide +kernel
theorem dX2_lengthOf_0 : decode cX2_lengthOf 0 = .ok (.aload_n 0, 1) := dk_42 (dk_at dksX2_lengthOf_0 0 rfl rfl)
theorem dX2_lengthOf_1 : decode cX2_lengthOf 1 = .ok (.iload_n 1, 1) := dk_27 (dk_at dksX2_lengthOf_0 1 rfl rfl)
theorem dX2_lengthOf_2 : decode cX2_lengthOf 2 = .ok (.iconst 3, 1) := dk_6 (dk_at dksX2_lengthOf_0 2 rfl rfl)
theorem dX2_lengthOf_3 : decode cX2_lengthOf 3 = .ok (.invokevirtual 63, 3) := dk_182 0 63 (dk_at dksX2_lengthOf_0 3 rfl rfl)
theorem dX2_lengthOf_6 : decode cX2_lengthOf 6 = .ok (.aload_n 0, 1) := dk_42 (dk_at dksX2_lengthOf_0 6 rfl rfl)
theorem dX2_lengthOf_7 : decode cX2_lengthOf 7 = .ok (.iload_n 1, 1) := dk_27 (dk_at dksX2_lengthOf_0 7 rfl rfl)
theorem dX2_lengthOf_8 : decode cX2_lengthOf 8 = .ok (.iconst 2, 1) := dk_5 (dk_at dksX2_lengthOf_0 8 rfl rfl)
theorem dX2_lengthOf_9 : decode cX2_lengthOf 9 = .ok (.invokevirtual 63, 3) := dk_182 0 63 (dk_at dksX2_lengthOf_0 9 rfl rfl)
theorem dX2_lengthOf_12 : decode cX2_lengthOf 12 = .ok (.isub, 1) := dk_100 (dk_at dksX2_lengthOf_0 12 rfl rfl)
theorem dX2_lengthOf_13 : decode cX2_lengthOf 13 = .ok (.ireturn, 1) := dk_172 (dk_at dksX2_lengthOf_0 13 rfl rfl)
abbrev cX2_flownWithin : ByteArray := prog_12_method_32_code
def yX2_flownWithin : MethodName := ⟨RX2, "flownWithin", "(II)I"⟩
def dkwX2_flownWithin_3 : List UInt8 := [167, 0, 4, 3, 96, 62, 132, 4, 1, 167, 255, 183, 29, 172]
abbrev dktX2_flownWithin_3 : List UInt8 := dkwX2_flownWithin_3 ++ []
def dkwX2_flownWithin_2 : List UInt8 := [184, 0, 79, 54, 6, 29, 42, 21, 4, 182, 0, 132, 153, 0, 15, 3, 21, 6, 21, 5, 100, 184, 0, 138]
abbrev dktX2_flownWithin_2 : List UInt8 := dkwX2_flownWithin_2 ++ dktX2_flownWithin_3
def dkwX2_flownWithin_1 : List UInt8 := [182, 0, 63, 184, 0, 138, 54, 5, 27, 28, 96, 42, 42, 21, 4, 182, 0, 120, 6, 182, 0, 63]
abbrev dktX2_flownWithin_1 : List UInt8 := dkwX2_flownWithin_1 ++ dktX2_flownWithin_2
def dkwX2_flownWithin_0 : List UInt8 := [3, 62, 3, 54, 4, 21, 4, 42, 180, 0, 114, 162, 0, 70, 27, 42, 42, 21, 4, 182, 0, 120, 5]
abbrev dktX2_flownWithin_0 : List UInt8 := dkwX2_flownWithin_0 ++ dktX2_flownWithin_1
theorem dksX2_flownWithin_0 : cX2_flownWithin.data.toList.drop 0 = dktX2_flownWithin_0 := by decide +kernel
theorem dksX2_flownWithin_1 : cX2_flownWithin.data.toList.drop 23 = dktX2_flownWithin_1 := dk_seg dksX2_flownWithin_0 23 rfl rfl
theorem dksX2_flownWithin_2 : cX2_flownWithin.data.toList.drop 45 = dktX2_flownWithin_2 := dk_seg dksX2_flownWithin_1 22 rfl rfl
theorem dksX2_flownWithin_3 : cX2_flownWithin.data.toList.drop 69 = dktX2_flownWithin_3 := dk_seg dksX2_flownWithin_2 24 rfl rfl
theorem dX2_flownWithin_0 : decode cX2_flownWithin 0 = .ok (.iconst 0, 1) := dk_3 (dk_at dksX2_flownWithin_0 0 rfl rfl)
theorem dX2_flownWithin_1 : decode cX2_flownWithin 1 = .ok (.istore_n 3, 1) := dk_62 (dk_at dksX2_flownWithin_0 1 rfl rfl)
theorem dX2_flownWithin_2 : decode cX2_flownWithin 2 = .ok (.iconst 0, 1) := dk_3 (dk_at dksX2_flownWithin_0 2 rfl rfl)
theorem dX2_flownWithin_3 : decode cX2_flownWithin 3 = .ok (.istore 4, 2) := dk_54 4 (dk_at dksX2_flownWithin_0 3 rfl rfl)
theorem dX2_flownWithin_5 : decode cX2_flownWithin 5 = .ok (.iload 4, 2) := dk_21 4 (dk_at dksX2_flownWithin_0 5 rfl rfl)
theorem dX2_flownWithin_7 : decode cX2_flownWithin 7 = .ok (.aload_n 0, 1) := dk_42 (dk_at dksX2_flownWithin_0 7 rfl rfl)
theorem dX2_flownWithin_8 : decode cX2_flownWithin 8 = .ok (.getfield 114, 3) := dk_180 0 114 (dk_at dksX2_flownWithin_0 8 rfl rfl)
theorem dX2_flownWithin_11 : decode cX2_flownWithin 11 = .ok (.if_icmp .ge 70, 3) := dk_162 0 70 (dk_at dksX2_flownWithin_0 11 rfl rfl)
theorem dX2_flownWithin_14 : decode cX2_flownWithin 14 = .ok (.iload_n 1, 1) := dk_27 (dk_at dksX2_flownWithin_0 14 rfl rfl)
theorem dX2_flownWithin_15 : decode cX2_flownWithin 15 = .ok (.aload_n 0, 1) := dk_42 (dk_at dksX2_flownWithin_0 15 rfl rfl)
theorem dX2_flownWithin_16 : decode cX2_flownWithin 16 = .ok (.aload_n 0, 1) := dk_42 (dk_at dksX2_flownWithin_0 16 rfl rfl)
theorem dX2_flownWithin_17 : decode cX2_flownWithin 17 = .ok (.iload 4, 2) := dk_21 4 (dk_at dksX2_flownWithin_0 17 rfl rfl)
theorem dX2_flownWithin_19 : decode cX2_flownWithin 19 = .ok (.invokevirtual 120, 3) := dk_182 0 120 (dk_at dksX2_flownWithin_0 19 rfl rfl)
theorem dX2_flownWithin_22 : decode cX2_flownWithin 22 = .ok (.iconst 2, 1) := dk_5 (dk_at dksX2_flownWithin_0 22 rfl rfl)
theorem dX2_flownWithin_23 : decode cX2_flownWithin 23 = .ok (.invokevirtual 63, 3) := dk_182 0 63 (dk_at dksX2_flownWithin_1 0 rfl rfl)
theorem dX2_flownWithin_26 : decode cX2_flownWithin 26 = .ok (.invokestatic 138, 3) := dk_184 0 138 (dk_at dksX2_flownWithin_1 3 rfl rfl)
theorem dX2_flownWithin_29 : decode cX2_flownWithin 29 = .ok (.istore 5, 2) := dk_54 5 (dk_at dksX2_flownWithin_1 6 rfl rfl)
theorem dX2_flownWithin_31 : decode cX2_flownWithin 31 = .ok (.iload_n 1, 1) := dk_27 (dk_at dksX2_flownWithin_1 8 rfl rfl)
theorem dX2_flownWithin_32 : decode cX2_flownWithin 32 = .ok (.iload_n 2, 1) := dk_28 (dk_at dksX2_flownWithin_1 9 rfl rfl)
theorem dX2_flownWithin_33 : decode cX2_flownWithin 33 = .ok (.iadd, 1) := dk_96 (dk_at dksX2_flownWithin_1 10 rfl rfl)
theorem dX2_flownWithin_34 : decode cX2_flownWithin 34 = .ok (.aload_n 0, 1) := dk_42 (dk_at dksX2_flownWithin_1 11 rfl rfl)
theorem dX2_flownWithin_35 : decode cX2_flownWithin 35 = .ok (.aload_n 0, 1) := dk_42 (dk_at dksX2_flownWithin_1 12 rfl rfl)
theorem dX2_flownWithin_36 : decode cX2_flownWithin 36 = .ok (.iload 4, 2) := dk_21 4 (dk_at dksX2_flownWithin_1 13 rfl rfl)
theorem dX2_flownWithin_38 : decode cX2_flownWithin 38 = .ok (.invokevirtual 120, 3) := dk_182 0 120 (dk_at dksX2_flownWithin_1 15 rfl rfl)
theorem dX2_flownWithin_41 : decode cX2_flownWithin 41 = .ok (.iconst 3, 1) := dk_6 (dk_at dksX2_flownWithin_1 18 rfl rfl)
theorem dX2_flownWithin_42 : decode cX2_flownWithin 42 = .ok (.invokevirtual 63, 3) := dk_182 0 63 (dk_at dksX2_flownWithin_1 19 rfl rfl)
theorem dX2_flownWithin_45 : decode cX2_flownWithin 45 = .ok (.invokestatic 79, 3) := dk_184 0 79 (dk_at dksX2_flownWithin_2 0 rfl rfl)
theorem dX2_flownWithin_48 : decode cX2_flownWithin 48 = .ok (.istore 6, 2) := dk_54 6 (dk_at dksX2_flownWithin_2 3 rfl rfl)
theorem dX2_flownWithin_50 : decode cX2_flownWithin 50 = .ok (.iload_n 3, 1) := dk_29 (dk_at dksX2_flownWithin_2 5 rfl rfl)
theorem dX2_flownWithin_51 : decode cX2_flownWithin 51 = .ok (.aload_n 0, 1) := dk_42 (dk_at dksX2_flownWithin_2 6 rfl rfl)
theorem dX2_flownWithin_52 : decode cX2_flownWithin 52 = .ok (.iload 4, 2) := dk_21 4 (dk_at dksX2_flownWithin_2 7 rfl rfl)
theorem dX2_flownWithin_54 : decode cX2_flownWithin 54 = .ok (.invokevirtual 132, 3) := dk_182 0 132 (dk_at dksX2_flownWithin_2 9 rfl rfl)
theorem dX2_flownWithin_57 : decode cX2_flownWithin 57 = .ok (.ifCond .eq 15, 3) := dk_153 0 15 (dk_at dksX2_flownWithin_2 12 rfl rfl)
theorem dX2_flownWithin_60 : decode cX2_flownWithin 60 = .ok (.iconst 0, 1) := dk_3 (dk_at dksX2_flownWithin_2 15 rfl rfl)
theorem dX2_flownWithin_61 : decode cX2_flownWithin 61 = .ok (.iload 6, 2) := dk_21 6 (dk_at dksX2_flownWithin_2 16 rfl rfl)
theorem dX2_flownWithin_63 : decode cX2_flownWithin 63 = .ok (.iload 5, 2) := dk_21 5 (dk_at dksX2_flownWithin_2 18 rfl rfl)
theorem dX2_flownWithin_65 : decode cX2_flownWithin 65 = .ok (.isub, 1) := dk_100 (dk_at dksX2_flownWithin_2 20 rfl rfl)
theorem dX2_flownWithin_66 : decode cX2_flownWithin 66 = .ok (.invokestatic 138, 3) := dk_184 0 138 (dk_at dksX2_flownWithin_2 21 rfl rfl)
theorem dX2_flownWithin_69 : decode cX2_flownWithin 69 = .ok (.goto 4, 3) := dk_167 0 4 (dk_at dksX2_flownWithin_3 0 rfl rfl)
theorem dX2_flownWithin_72 : decode cX2_flownWithin 72 = .ok (.iconst 0, 1) := dk_3 (dk_at dksX2_flownWithin_3 3 rfl rfl)
theorem dX2_flownWithin_73 : decode cX2_flownWithin 73 = .ok (.iadd, 1) := dk_96 (dk_at dksX2_flownWithin_3 4 rfl rfl)
theorem dX2_flownWithin_74 : decode cX2_flownWithin 74 = .ok (.istore_n 3, 1) := dk_62 (dk_at dksX2_flownWithin_3 5 rfl rfl)
theorem dX2_flownWithin_75 : decode cX2_flownWithin 75 = .ok (.iinc 4 1, 3) := dk_132 4 1 (dk_at dksX2_flownWithin_3 6 rfl rfl)
theorem dX2_flownWithin_78 : decode cX2_flownWithin 78 = .ok (.goto (-73), 3) := dk_167 255 183 (dk_at dksX2_flownWithin_3 9 rfl rfl)
theorem dX2_flownWithin_81 : decode cX2_flownWithin 81 = .ok (.iload_n 3, 1) := dk_29 (dk_at dksX2_flownWithin_3 12 rfl rfl)
theorem dX2_flownWithin_82 : decode cX2_flownWithin 82 = .ok (.ireturn, 1) := dk_172 (dk_at dksX2_flownWithin_3 13 rfl rfl)
abbrev cX2_takeOut : ByteArray := prog_12_method_26_code
def yX2_takeOut : MethodName := ⟨RX2, "takeOut", "(I)V"⟩
def dkwX2_takeOut_1 : List UInt8 := [28, 42, 180, 0, 22, 28, 4, 96, 46, 79, 132, 2, 1, 167, 255, 231, 177]
abbrev dktX2_takeOut_1 : List UInt8 := dkwX2_takeOut_1 ++ []
def dkwX2_takeOut_0 : List UInt8 := [42, 89, 180, 0, 114, 4, 100, 181, 0, 114, 27, 61, 28, 42, 180, 0, 114, 162, 0, 23, 42, 180, 0, 22]
abbrev dktX2_takeOut_0 : List UInt8 := dkwX2_takeOut_0 ++ dktX2_takeOut_1
theorem dksX2_takeOut_0 : cX2_takeOut.data.toList.drop 0 = dktX2_takeOut_0 := by decide +kernel
theorem dksX2_takeOut_1 : cX2_takeOut.data.toList.drop 24 = dktX2_takeOut_1 := dk_seg dksX2_takeOut_0 24 rfl rfl
theorem dX2_takeOut_0 : decode cX2_takeOut 0 = .ok (.aload_n 0, 1) := dk_42 (dk_at dksX2_takeOut_0 0 rfl rfl)
theorem dX2_takeOut_1 : decode cX2_takeOut 1 = .ok (.dup, 1) := dk_89 (dk_at dksX2_takeOut_0 1 rfl rfl)
theorem dX2_takeOut_2 : decode cX2_takeOut 2 = .ok (.getfield 114, 3) := dk_180 0 114 (dk_at dksX2_takeOut_0 2 rfl rfl)
theorem dX2_takeOut_5 : decode cX2_takeOut 5 = .ok (.iconst 1, 1) := dk_4 (dk_at dksX2_takeOut_0 5 rfl rfl)
theorem dX2_takeOut_6 : decode cX2_takeOut 6 = .ok (.isub, 1) := dk_100 (dk_at dksX2_takeOut_0 6 rfl rfl)
theorem dX2_takeOut_7 : decode cX2_takeOut 7 = .ok (.putfield 114, 3) := dk_181 0 114 (dk_at dksX2_takeOut_0 7 rfl rfl)
theorem dX2_takeOut_10 : decode cX2_takeOut 10 = .ok (.iload_n 1, 1) := dk_27 (dk_at dksX2_takeOut_0 10 rfl rfl)
theorem dX2_takeOut_11 : decode cX2_takeOut 11 = .ok (.istore_n 2, 1) := dk_61 (dk_at dksX2_takeOut_0 11 rfl rfl)
theorem dX2_takeOut_12 : decode cX2_takeOut 12 = .ok (.iload_n 2, 1) := dk_28 (dk_at dksX2_takeOut_0 12 rfl rfl)
theorem dX2_takeOut_13 : decode cX2_takeOut 13 = .ok (.aload_n 0, 1) := dk_42 (dk_at dksX2_takeOut_0 13 rfl rfl)
theorem dX2_takeOut_14 : decode cX2_takeOut 14 = .ok (.getfield 114, 3) := dk_180 0 114 (dk_at dksX2_takeOut_0 14 rfl rfl)
theorem dX2_takeOut_17 : decode cX2_takeOut 17 = .ok (.if_icmp .ge 23, 3) := dk_162 0 23 (dk_at dksX2_takeOut_0 17 rfl rfl)
theorem dX2_takeOut_20 : decode cX2_takeOut 20 = .ok (.aload_n 0, 1) := dk_42 (dk_at dksX2_takeOut_0 20 rfl rfl)
theorem dX2_takeOut_21 : decode cX2_takeOut 21 = .ok (.getfield 22, 3) := dk_180 0 22 (dk_at dksX2_takeOut_0 21 rfl rfl)
theorem dX2_takeOut_24 : decode cX2_takeOut 24 = .ok (.iload_n 2, 1) := dk_28 (dk_at dksX2_takeOut_1 0 rfl rfl)
theorem dX2_takeOut_25 : decode cX2_takeOut 25 = .ok (.aload_n 0, 1) := dk_42 (dk_at dksX2_takeOut_1 1 rfl rfl)
theorem dX2_takeOut_26 : decode cX2_takeOut 26 = .ok (.getfield 22, 3) := dk_180 0 22 (dk_at dksX2_takeOut_1 2 rfl rfl)
theorem dX2_takeOut_29 : decode cX2_takeOut 29 = .ok (.iload_n 2, 1) := dk_28 (dk_at dksX2_takeOut_1 5 rfl rfl)
theorem dX2_takeOut_30 : decode cX2_takeOut 30 = .ok (.iconst 1, 1) := dk_4 (dk_at dksX2_takeOut_1 6 rfl rfl)
theorem dX2_takeOut_31 : decode cX2_takeOut 31 = .ok (.iadd, 1) := dk_96 (dk_at dksX2_takeOut_1 7 rfl rfl)
theorem dX2_takeOut_32 : decode cX2_takeOut 32 = .ok (.iaload, 1) := dk_46 (dk_at dksX2_takeOut_1 8 rfl rfl)
theorem dX2_takeOut_33 : decode cX2_takeOut 33 = .ok (.iastore, 1) := dk_79 (dk_at dksX2_takeOut_1 9 rfl rfl)
theorem dX2_takeOut_34 : decode cX2_takeOut 34 = .ok (.iinc 2 1, 3) := dk_132 2 1 (dk_at dksX2_takeOut_1 10 rfl rfl)
theorem dX2_takeOut_37 : decode cX2_takeOut 37 = .ok (.goto (-25), 3) := dk_167 255 231 (dk_at dksX2_takeOut_1 13 rfl rfl)
theorem dX2_takeOut_40 : decode cX2_takeOut 40 = .ok (.return_, 1) := dk_177 (dk_at dksX2_takeOut_1 16 rfl rfl)
abbrev cX2_enter : ByteArray := prog_12_method_38_code
def yX2_enter : MethodName := ⟨RX2, "enter", "(IIZ)I"⟩
def dkwX2_enter_0 : List UInt8 := [42, 27, 182, 0, 165, 42, 28, 29, 182, 0, 157, 54, 4, 42, 27, 182, 0, 171, 21, 4, 172]
abbrev dktX2_enter_0 : List UInt8 := dkwX2_enter_0 ++ []
theorem dksX2_enter_0 : cX2_enter.data.toList.drop 0 = dktX2_enter_0 := by decide +kernel
theorem dX2_enter_0 : decode cX2_enter 0 = .ok (.aload_n 0, 1) := dk_42 (dk_at dksX2_enter_0 0 rfl rfl)
theorem dX2_enter_1 : decode cX2_enter 1 = .ok (.iload_n 1, 1) := dk_27 (dk_at dksX2_enter_0 1 rfl rfl)
theorem dX2_enter_2 : decode cX2_enter 2 = .ok (.invokevirtual 165, 3) := dk_182 0 165 (dk_at dksX2_enter_0 2 rfl rfl)
theorem dX2_enter_5 : decode cX2_enter 5 = .ok (.aload_n 0, 1) := dk_42 (dk_at dksX2_enter_0 5 rfl rfl)
theorem dX2_enter_6 : decode cX2_enter 6 = .ok (.iload_n 2, 1) := dk_28 (dk_at dksX2_enter_0 6 rfl rfl)
theorem dX2_enter_7 : decode cX2_enter 7 = .ok (.iload_n 3, 1) := dk_29 (dk_at dksX2_enter_0 7 rfl rfl)
theorem dX2_enter_8 : decode cX2_enter 8 = .ok (.invokevirtual 157, 3) := dk_182 0 157 (dk_at dksX2_enter_0 8 rfl rfl)
theorem dX2_enter_11 : decode cX2_enter 11 = .ok (.istore 4, 2) := dk_54 4 (dk_at dksX2_enter_0 11 rfl rfl)
theorem dX2_enter_13 : decode cX2_enter 13 = .ok (.aload_n 0, 1) := dk_42 (dk_at dksX2_enter_0 13 rfl rfl)
theorem dX2_enter_14 : decode cX2_enter 14 = .ok (.iload_n 1, 1) := dk_27 (dk_at dksX2_enter_0 14 rfl rfl)
theorem dX2_enter_15 : decode cX2_enter 15 = .ok (.invokevirtual 171, 3) := dk_182 0 171 (dk_at dksX2_enter_0 15 rfl rfl)
theorem dX2_enter_18 : decode cX2_enter 18 = .ok (.iload 4, 2) := dk_21 4 (dk_at dksX2_enter_0 18 rfl rfl)
theorem dX2_enter_20 : decode cX2_enter 20 = .ok (.ireturn, 1) := dk_172 (dk_at dksX2_enter_0 20 rfl rfl)
abbrev cX2_give : ByteArray := prog_12_method_22_code
def yX2_give : MethodName := ⟨RX2, "give", "(I)V"⟩
def dkwX2_give_1 : List UInt8 := [7, 184, 0, 91, 42, 180, 0, 114, 184, 0, 53, 177]
abbrev dktX2_give_1 : List UInt8 := dkwX2_give_1 ++ []
def dkwX2_give_0 : List UInt8 := [42, 180, 0, 9, 27, 6, 184, 0, 91, 42, 180, 0, 114, 79, 42, 180, 0, 22, 3, 42, 180, 0, 9, 27]
abbrev dktX2_give_0 : List UInt8 := dkwX2_give_0 ++ dktX2_give_1
theorem dksX2_give_0 : cX2_give.data.toList.drop 0 = dktX2_give_0 := by decide +kernel
theorem dksX2_give_1 : cX2_give.data.toList.drop 24 = dktX2_give_1 := dk_seg dksX2_give_0 24 rfl rfl
theorem dX2_give_0 : decode cX2_give 0 = .ok (.aload_n 0, 1) := dk_42 (dk_at dksX2_give_0 0 rfl rfl)
theorem dX2_give_1 : decode cX2_give 1 = .ok (.getfield 9, 3) := dk_180 0 9 (dk_at dksX2_give_0 1 rfl rfl)
theorem dX2_give_4 : decode cX2_give 4 = .ok (.iload_n 1, 1) := dk_27 (dk_at dksX2_give_0 4 rfl rfl)
theorem dX2_give_5 : decode cX2_give 5 = .ok (.iconst 3, 1) := dk_6 (dk_at dksX2_give_0 5 rfl rfl)
theorem dX2_give_6 : decode cX2_give 6 = .ok (.invokestatic 91, 3) := dk_184 0 91 (dk_at dksX2_give_0 6 rfl rfl)
theorem dX2_give_9 : decode cX2_give 9 = .ok (.aload_n 0, 1) := dk_42 (dk_at dksX2_give_0 9 rfl rfl)
theorem dX2_give_10 : decode cX2_give 10 = .ok (.getfield 114, 3) := dk_180 0 114 (dk_at dksX2_give_0 10 rfl rfl)
theorem dX2_give_13 : decode cX2_give 13 = .ok (.iastore, 1) := dk_79 (dk_at dksX2_give_0 13 rfl rfl)
theorem dX2_give_14 : decode cX2_give 14 = .ok (.aload_n 0, 1) := dk_42 (dk_at dksX2_give_0 14 rfl rfl)
theorem dX2_give_15 : decode cX2_give 15 = .ok (.getfield 22, 3) := dk_180 0 22 (dk_at dksX2_give_0 15 rfl rfl)
theorem dX2_give_18 : decode cX2_give 18 = .ok (.iconst 0, 1) := dk_3 (dk_at dksX2_give_0 18 rfl rfl)
theorem dX2_give_19 : decode cX2_give 19 = .ok (.aload_n 0, 1) := dk_42 (dk_at dksX2_give_0 19 rfl rfl)
theorem dX2_give_20 : decode cX2_give 20 = .ok (.getfield 9, 3) := dk_180 0 9 (dk_at dksX2_give_0 20 rfl rfl)
theorem dX2_give_23 : decode cX2_give 23 = .ok (.iload_n 1, 1) := dk_27 (dk_at dksX2_give_0 23 rfl rfl)
theorem dX2_give_24 : decode cX2_give 24 = .ok (.iconst 4, 1) := dk_7 (dk_at dksX2_give_1 0 rfl rfl)
theorem dX2_give_25 : decode cX2_give 25 = .ok (.invokestatic 91, 3) := dk_184 0 91 (dk_at dksX2_give_1 1 rfl rfl)
theorem dX2_give_28 : decode cX2_give 28 = .ok (.aload_n 0, 1) := dk_42 (dk_at dksX2_give_1 4 rfl rfl)
theorem dX2_give_29 : decode cX2_give 29 = .ok (.getfield 114, 3) := dk_180 0 114 (dk_at dksX2_give_1 5 rfl rfl)
theorem dX2_give_32 : decode cX2_give 32 = .ok (.invokestatic 53, 3) := dk_184 0 53 (dk_at dksX2_give_1 8 rfl rfl)
theorem dX2_give_35 : decode cX2_give 35 = .ok (.return_, 1) := dk_177 (dk_at dksX2_give_1 11 rfl rfl)
abbrev cX2_ride : ByteArray := prog_12_method_41_code
def yX2_ride : MethodName := ⟨RX2, "ride", "(II)I"⟩
def dkwX2_ride_0 : List UInt8 := [42, 27, 28, 3, 182, 0, 183, 172]
abbrev dktX2_ride_0 : List UInt8 := dkwX2_ride_0 ++ []
theorem dksX2_ride_0 : cX2_ride.data.toList.drop 0 = dktX2_ride_0 := by decide +kernel
theorem dX2_ride_0 : decode cX2_ride 0 = .ok (.aload_n 0, 1) := dk_42 (dk_at dksX2_ride_0 0 rfl rfl)
theorem dX2_ride_1 : decode cX2_ride 1 = .ok (.iload_n 1, 1) := dk_27 (dk_at dksX2_ride_0 1 rfl rfl)
theorem dX2_ride_2 : decode cX2_ride 2 = .ok (.iload_n 2, 1) := dk_28 (dk_at dksX2_ride_0 2 rfl rfl)
theorem dX2_ride_3 : decode cX2_ride 3 = .ok (.iconst 0, 1) := dk_3 (dk_at dksX2_ride_0 3 rfl rfl)
theorem dX2_ride_4 : decode cX2_ride 4 = .ok (.invokevirtual 183, 3) := dk_182 0 183 (dk_at dksX2_ride_0 4 rfl rfl)
theorem dX2_ride_7 : decode cX2_ride 7 = .ok (.ireturn, 1) := dk_172 (dk_at dksX2_ride_0 7 rfl rfl)
abbrev cX2_drop : ByteArray := prog_12_method_42_code
def yX2_drop : MethodName := ⟨RX2, "drop", "(II)I"⟩
def dkwX2_drop_2 : List UInt8 := [182, 0, 171, 42, 180, 0, 114, 172]
abbrev dktX2_drop_2 : List UInt8 := dkwX2_drop_2 ++ []
def dkwX2_drop_1 : List UInt8 := [62, 29, 156, 0, 6, 16, 254, 172, 42, 182, 0, 88, 42, 27, 182, 0, 165, 42, 29, 182, 0, 161, 42, 27]
abbrev dktX2_drop_1 : List UInt8 := dkwX2_drop_1 ++ dktX2_drop_2
def dkwX2_drop_0 : List UInt8 := [42, 27, 182, 0, 174, 153, 0, 11, 42, 28, 182, 0, 100, 154, 0, 5, 2, 172, 42, 27, 28, 182, 0, 97]
abbrev dktX2_drop_0 : List UInt8 := dkwX2_drop_0 ++ dktX2_drop_1
theorem dksX2_drop_0 : cX2_drop.data.toList.drop 0 = dktX2_drop_0 := by decide +kernel
theorem dksX2_drop_1 : cX2_drop.data.toList.drop 24 = dktX2_drop_1 := dk_seg dksX2_drop_0 24 rfl rfl
theorem dksX2_drop_2 : cX2_drop.data.toList.drop 48 = dktX2_drop_2 := dk_seg dksX2_drop_1 24 rfl rfl
theorem dX2_drop_0 : decode cX2_drop 0 = .ok (.aload_n 0, 1) := dk_42 (dk_at dksX2_drop_0 0 rfl rfl)
theorem dX2_drop_1 : decode cX2_drop 1 = .ok (.iload_n 1, 1) := dk_27 (dk_at dksX2_drop_0 1 rfl rfl)
theorem dX2_drop_2 : decode cX2_drop 2 = .ok (.invokevirtual 174, 3) := dk_182 0 174 (dk_at dksX2_drop_0 2 rfl rfl)
theorem dX2_drop_5 : decode cX2_drop 5 = .ok (.ifCond .eq 11, 3) := dk_153 0 11 (dk_at dksX2_drop_0 5 rfl rfl)
theorem dX2_drop_8 : decode cX2_drop 8 = .ok (.aload_n 0, 1) := dk_42 (dk_at dksX2_drop_0 8 rfl rfl)
theorem dX2_drop_9 : decode cX2_drop 9 = .ok (.iload_n 2, 1) := dk_28 (dk_at dksX2_drop_0 9 rfl rfl)
theorem dX2_drop_10 : decode cX2_drop 10 = .ok (.invokevirtual 100, 3) := dk_182 0 100 (dk_at dksX2_drop_0 10 rfl rfl)
theorem dX2_drop_13 : decode cX2_drop 13 = .ok (.ifCond .ne 5, 3) := dk_154 0 5 (dk_at dksX2_drop_0 13 rfl rfl)
theorem dX2_drop_16 : decode cX2_drop 16 = .ok (.iconst (-1), 1) := dk_2 (dk_at dksX2_drop_0 16 rfl rfl)
theorem dX2_drop_17 : decode cX2_drop 17 = .ok (.ireturn, 1) := dk_172 (dk_at dksX2_drop_0 17 rfl rfl)
theorem dX2_drop_18 : decode cX2_drop 18 = .ok (.aload_n 0, 1) := dk_42 (dk_at dksX2_drop_0 18 rfl rfl)
theorem dX2_drop_19 : decode cX2_drop 19 = .ok (.iload_n 1, 1) := dk_27 (dk_at dksX2_drop_0 19 rfl rfl)
theorem dX2_drop_20 : decode cX2_drop 20 = .ok (.iload_n 2, 1) := dk_28 (dk_at dksX2_drop_0 20 rfl rfl)
theorem dX2_drop_21 : decode cX2_drop 21 = .ok (.invokevirtual 97, 3) := dk_182 0 97 (dk_at dksX2_drop_0 21 rfl rfl)
theorem dX2_drop_24 : decode cX2_drop 24 = .ok (.istore_n 3, 1) := dk_62 (dk_at dksX2_drop_1 0 rfl rfl)
theorem dX2_drop_25 : decode cX2_drop 25 = .ok (.iload_n 3, 1) := dk_29 (dk_at dksX2_drop_1 1 rfl rfl)
theorem dX2_drop_26 : decode cX2_drop 26 = .ok (.ifCond .ge 6, 3) := dk_156 0 6 (dk_at dksX2_drop_1 2 rfl rfl)
theorem dX2_drop_29 : decode cX2_drop 29 = .ok (.bipush (-2), 2) := dk_16 254 (dk_at dksX2_drop_1 5 rfl rfl)
theorem dX2_drop_31 : decode cX2_drop 31 = .ok (.ireturn, 1) := dk_172 (dk_at dksX2_drop_1 7 rfl rfl)
theorem dX2_drop_32 : decode cX2_drop 32 = .ok (.aload_n 0, 1) := dk_42 (dk_at dksX2_drop_1 8 rfl rfl)
theorem dX2_drop_33 : decode cX2_drop 33 = .ok (.invokevirtual 88, 3) := dk_182 0 88 (dk_at dksX2_drop_1 9 rfl rfl)
theorem dX2_drop_36 : decode cX2_drop 36 = .ok (.aload_n 0, 1) := dk_42 (dk_at dksX2_drop_1 12 rfl rfl)
theorem dX2_drop_37 : decode cX2_drop 37 = .ok (.iload_n 1, 1) := dk_27 (dk_at dksX2_drop_1 13 rfl rfl)
theorem dX2_drop_38 : decode cX2_drop 38 = .ok (.invokevirtual 165, 3) := dk_182 0 165 (dk_at dksX2_drop_1 14 rfl rfl)
theorem dX2_drop_41 : decode cX2_drop 41 = .ok (.aload_n 0, 1) := dk_42 (dk_at dksX2_drop_1 17 rfl rfl)
theorem dX2_drop_42 : decode cX2_drop 42 = .ok (.iload_n 3, 1) := dk_29 (dk_at dksX2_drop_1 18 rfl rfl)
theorem dX2_drop_43 : decode cX2_drop 43 = .ok (.invokevirtual 161, 3) := dk_182 0 161 (dk_at dksX2_drop_1 19 rfl rfl)
theorem dX2_drop_46 : decode cX2_drop 46 = .ok (.aload_n 0, 1) := dk_42 (dk_at dksX2_drop_1 22 rfl rfl)
theorem dX2_drop_47 : decode cX2_drop 47 = .ok (.iload_n 1, 1) := dk_27 (dk_at dksX2_drop_1 23 rfl rfl)
theorem dX2_drop_48 : decode cX2_drop 48 = .ok (.invokevirtual 171, 3) := dk_182 0 171 (dk_at dksX2_drop_2 0 rfl rfl)
theorem dX2_drop_51 : decode cX2_drop 51 = .ok (.aload_n 0, 1) := dk_42 (dk_at dksX2_drop_2 3 rfl rfl)
theorem dX2_drop_52 : decode cX2_drop 52 = .ok (.getfield 114, 3) := dk_180 0 114 (dk_at dksX2_drop_2 4 rfl rfl)
theorem dX2_drop_55 : decode cX2_drop 55 = .ok (.ireturn, 1) := dk_172 (dk_at dksX2_drop_2 7 rfl rfl)
abbrev cX2_reason : ByteArray := prog_12_method_43_code
def yX2_reason : MethodName := ⟨RX2, "reason", "(IIZ)I"⟩
def dkwX2_reason_1 : List UInt8 := [16, 100, 108, 167, 0, 4, 2, 172]
abbrev dktX2_reason_1 : List UInt8 := dkwX2_reason_1 ++ []
def dkwX2_reason_0 : List UInt8 := [42, 27, 182, 0, 174, 153, 0, 24, 42, 28, 182, 0, 100, 153, 0, 16, 42, 27, 28, 29, 182, 0, 177]
abbrev dktX2_reason_0 : List UInt8 := dkwX2_reason_0 ++ dktX2_reason_1
theorem dksX2_reason_0 : cX2_reason.data.toList.drop 0 = dktX2_reason_0 := by decide +kernel
theorem dksX2_reason_1 : cX2_reason.data.toList.drop 23 = dktX2_reason_1 := dk_seg dksX2_reason_0 23 rfl rfl
theorem dX2_reason_0 : decode cX2_reason 0 = .ok (.aload_n 0, 1) := dk_42 (dk_at dksX2_reason_0 0 rfl rfl)
theorem dX2_reason_1 : decode cX2_reason 1 = .ok (.iload_n 1, 1) := dk_27 (dk_at dksX2_reason_0 1 rfl rfl)
theorem dX2_reason_2 : decode cX2_reason 2 = .ok (.invokevirtual 174, 3) := dk_182 0 174 (dk_at dksX2_reason_0 2 rfl rfl)
theorem dX2_reason_5 : decode cX2_reason 5 = .ok (.ifCond .eq 24, 3) := dk_153 0 24 (dk_at dksX2_reason_0 5 rfl rfl)
theorem dX2_reason_8 : decode cX2_reason 8 = .ok (.aload_n 0, 1) := dk_42 (dk_at dksX2_reason_0 8 rfl rfl)
theorem dX2_reason_9 : decode cX2_reason 9 = .ok (.iload_n 2, 1) := dk_28 (dk_at dksX2_reason_0 9 rfl rfl)
theorem dX2_reason_10 : decode cX2_reason 10 = .ok (.invokevirtual 100, 3) := dk_182 0 100 (dk_at dksX2_reason_0 10 rfl rfl)
theorem dX2_reason_13 : decode cX2_reason 13 = .ok (.ifCond .eq 16, 3) := dk_153 0 16 (dk_at dksX2_reason_0 13 rfl rfl)
theorem dX2_reason_16 : decode cX2_reason 16 = .ok (.aload_n 0, 1) := dk_42 (dk_at dksX2_reason_0 16 rfl rfl)
theorem dX2_reason_17 : decode cX2_reason 17 = .ok (.iload_n 1, 1) := dk_27 (dk_at dksX2_reason_0 17 rfl rfl)
theorem dX2_reason_18 : decode cX2_reason 18 = .ok (.iload_n 2, 1) := dk_28 (dk_at dksX2_reason_0 18 rfl rfl)
theorem dX2_reason_19 : decode cX2_reason 19 = .ok (.iload_n 3, 1) := dk_29 (dk_at dksX2_reason_0 19 rfl rfl)
theorem dX2_reason_20 : decode cX2_reason 20 = .ok (.invokevirtual 177, 3) := dk_182 0 177 (dk_at dksX2_reason_0 20 rfl rfl)
theorem dX2_reason_23 : decode cX2_reason 23 = .ok (.bipush 100, 2) := dk_16 100 (dk_at dksX2_reason_1 0 rfl rfl)
theorem dX2_reason_25 : decode cX2_reason 25 = .ok (.idiv, 1) := dk_108 (dk_at dksX2_reason_1 2 rfl rfl)
theorem dX2_reason_26 : decode cX2_reason 26 = .ok (.goto 4, 3) := dk_167 0 4 (dk_at dksX2_reason_1 3 rfl rfl)
theorem dX2_reason_29 : decode cX2_reason 29 = .ok (.iconst (-1), 1) := dk_2 (dk_at dksX2_reason_1 6 rfl rfl)
theorem dX2_reason_30 : decode cX2_reason 30 = .ok (.ireturn, 1) := dk_172 (dk_at dksX2_reason_1 7 rfl rfl)
abbrev cX2_place : ByteArray := prog_12_method_44_code
def yX2_place : MethodName := ⟨RX2, "place", "(IIZ)I"⟩
def dkwX2_place_2 : List UInt8 := [167, 0, 5, 16, 254, 172]
abbrev dktX2_place_2 : List UInt8 := dkwX2_place_2 ++ []
def dkwX2_place_1 : List UInt8 := [182, 0, 177, 54, 4, 21, 4, 16, 100, 108, 4, 16, 7, 184, 0, 59, 153, 0, 11, 21, 4, 16, 100, 112]
abbrev dktX2_place_1 : List UInt8 := dkwX2_place_1 ++ dktX2_place_2
def dkwX2_place_0 : List UInt8 := [42, 27, 182, 0, 174, 153, 0, 11, 42, 28, 182, 0, 100, 154, 0, 5, 2, 172, 42, 27, 28, 29]
abbrev dktX2_place_0 : List UInt8 := dkwX2_place_0 ++ dktX2_place_1
theorem dksX2_place_0 : cX2_place.data.toList.drop 0 = dktX2_place_0 := by decide +kernel
theorem dksX2_place_1 : cX2_place.data.toList.drop 22 = dktX2_place_1 := dk_seg dksX2_place_0 22 rfl rfl
theorem dksX2_place_2 : cX2_place.data.toList.drop 46 = dktX2_place_2 := dk_seg dksX2_place_1 24 rfl rfl
theorem dX2_place_0 : decode cX2_place 0 = .ok (.aload_n 0, 1) := dk_42 (dk_at dksX2_place_0 0 rfl rfl)
theorem dX2_place_1 : decode cX2_place 1 = .ok (.iload_n 1, 1) := dk_27 (dk_at dksX2_place_0 1 rfl rfl)
theorem dX2_place_2 : decode cX2_place 2 = .ok (.invokevirtual 174, 3) := dk_182 0 174 (dk_at dksX2_place_0 2 rfl rfl)
theorem dX2_place_5 : decode cX2_place 5 = .ok (.ifCond .eq 11, 3) := dk_153 0 11 (dk_at dksX2_place_0 5 rfl rfl)
theorem dX2_place_8 : decode cX2_place 8 = .ok (.aload_n 0, 1) := dk_42 (dk_at dksX2_place_0 8 rfl rfl)
theorem dX2_place_9 : decode cX2_place 9 = .ok (.iload_n 2, 1) := dk_28 (dk_at dksX2_place_0 9 rfl rfl)
theorem dX2_place_10 : decode cX2_place 10 = .ok (.invokevirtual 100, 3) := dk_182 0 100 (dk_at dksX2_place_0 10 rfl rfl)
theorem dX2_place_13 : decode cX2_place 13 = .ok (.ifCond .ne 5, 3) := dk_154 0 5 (dk_at dksX2_place_0 13 rfl rfl)
theorem dX2_place_16 : decode cX2_place 16 = .ok (.iconst (-1), 1) := dk_2 (dk_at dksX2_place_0 16 rfl rfl)
theorem dX2_place_17 : decode cX2_place 17 = .ok (.ireturn, 1) := dk_172 (dk_at dksX2_place_0 17 rfl rfl)
theorem dX2_place_18 : decode cX2_place 18 = .ok (.aload_n 0, 1) := dk_42 (dk_at dksX2_place_0 18 rfl rfl)
theorem dX2_place_19 : decode cX2_place 19 = .ok (.iload_n 1, 1) := dk_27 (dk_at dksX2_place_0 19 rfl rfl)
theorem dX2_place_20 : decode cX2_place 20 = .ok (.iload_n 2, 1) := dk_28 (dk_at dksX2_place_0 20 rfl rfl)
theorem dX2_place_21 : decode cX2_place 21 = .ok (.iload_n 3, 1) := dk_29 (dk_at dksX2_place_0 21 rfl rfl)
theorem dX2_place_22 : decode cX2_place 22 = .ok (.invokevirtual 177, 3) := dk_182 0 177 (dk_at dksX2_place_1 0 rfl rfl)
theorem dX2_place_25 : decode cX2_place 25 = .ok (.istore 4, 2) := dk_54 4 (dk_at dksX2_place_1 3 rfl rfl)
theorem dX2_place_27 : decode cX2_place 27 = .ok (.iload 4, 2) := dk_21 4 (dk_at dksX2_place_1 5 rfl rfl)
theorem dX2_place_29 : decode cX2_place 29 = .ok (.bipush 100, 2) := dk_16 100 (dk_at dksX2_place_1 7 rfl rfl)
theorem dX2_place_31 : decode cX2_place 31 = .ok (.idiv, 1) := dk_108 (dk_at dksX2_place_1 9 rfl rfl)
theorem dX2_place_32 : decode cX2_place 32 = .ok (.iconst 1, 1) := dk_4 (dk_at dksX2_place_1 10 rfl rfl)
theorem dX2_place_33 : decode cX2_place 33 = .ok (.bipush 7, 2) := dk_16 7 (dk_at dksX2_place_1 11 rfl rfl)
theorem dX2_place_35 : decode cX2_place 35 = .ok (.invokestatic 59, 3) := dk_184 0 59 (dk_at dksX2_place_1 13 rfl rfl)
theorem dX2_place_38 : decode cX2_place 38 = .ok (.ifCond .eq 11, 3) := dk_153 0 11 (dk_at dksX2_place_1 16 rfl rfl)
theorem dX2_place_41 : decode cX2_place 41 = .ok (.iload 4, 2) := dk_21 4 (dk_at dksX2_place_1 19 rfl rfl)
theorem dX2_place_43 : decode cX2_place 43 = .ok (.bipush 100, 2) := dk_16 100 (dk_at dksX2_place_1 21 rfl rfl)
theorem dX2_place_45 : decode cX2_place 45 = .ok (.irem, 1) := dk_112 (dk_at dksX2_place_1 23 rfl rfl)
theorem dX2_place_46 : decode cX2_place 46 = .ok (.goto 5, 3) := dk_167 0 5 (dk_at dksX2_place_2 0 rfl rfl)
theorem dX2_place_49 : decode cX2_place 49 = .ok (.bipush (-2), 2) := dk_16 254 (dk_at dksX2_place_2 3 rfl rfl)
theorem dX2_place_51 : decode cX2_place 51 = .ok (.ireturn, 1) := dk_172 (dk_at dksX2_place_2 5 rfl rfl)
abbrev cX2_itemCount : ByteArray := prog_12_method_45_code
def yX2_itemCount : MethodName := ⟨RX2, "itemCount", "(I)I"⟩
def dkwX2_itemCount_0 : List UInt8 := [42, 27, 182, 0, 174, 153, 0, 12, 42, 27, 6, 182, 0, 94, 167, 0, 4, 2, 172]
abbrev dktX2_itemCount_0 : List UInt8 := dkwX2_itemCount_0 ++ []
theorem dksX2_itemCount_0 : cX2_itemCount.data.toList.drop 0 = dktX2_itemCount_0 := by decide +kernel
theorem dX2_itemCount_0 : decode cX2_itemCount 0 = .ok (.aload_n 0, 1) := dk_42 (dk_at dksX2_itemCount_0 0 rfl rfl)
theorem dX2_itemCount_1 : decode cX2_itemCount 1 = .ok (.iload_n 1, 1) := dk_27 (dk_at dksX2_itemCount_0 1 rfl rfl)
theorem dX2_itemCount_2 : decode cX2_itemCount 2 = .ok (.invokevirtual 174, 3) := dk_182 0 174 (dk_at dksX2_itemCount_0 2 rfl rfl)
theorem dX2_itemCount_5 : decode cX2_itemCount 5 = .ok (.ifCond .eq 12, 3) := dk_153 0 12 (dk_at dksX2_itemCount_0 5 rfl rfl)
theorem dX2_itemCount_8 : decode cX2_itemCount 8 = .ok (.aload_n 0, 1) := dk_42 (dk_at dksX2_itemCount_0 8 rfl rfl)
theorem dX2_itemCount_9 : decode cX2_itemCount 9 = .ok (.iload_n 1, 1) := dk_27 (dk_at dksX2_itemCount_0 9 rfl rfl)
theorem dX2_itemCount_10 : decode cX2_itemCount 10 = .ok (.iconst 3, 1) := dk_6 (dk_at dksX2_itemCount_0 10 rfl rfl)
theorem dX2_itemCount_11 : decode cX2_itemCount 11 = .ok (.invokevirtual 94, 3) := dk_182 0 94 (dk_at dksX2_itemCount_0 11 rfl rfl)
theorem dX2_itemCount_14 : decode cX2_itemCount 14 = .ok (.goto 4, 3) := dk_167 0 4 (dk_at dksX2_itemCount_0 14 rfl rfl)
theorem dX2_itemCount_17 : decode cX2_itemCount 17 = .ok (.iconst (-1), 1) := dk_2 (dk_at dksX2_itemCount_0 17 rfl rfl)
theorem dX2_itemCount_18 : decode cX2_itemCount 18 = .ok (.ireturn, 1) := dk_172 (dk_at dksX2_itemCount_0 18 rfl rfl)
abbrev cX2_item : ByteArray := prog_12_method_47_code
def yX2_item : MethodName := ⟨RX2, "item", "(III)I"⟩
def dkwX2_item_3 : List UInt8 := [182, 0, 186, 172]
abbrev dktX2_item_3 : List UInt8 := dkwX2_item_3 ++ []
def dkwX2_item_2 : List UInt8 := [182, 0, 120, 167, 0, 24, 29, 4, 160, 0, 14, 42, 180, 0, 22, 28, 46, 5, 112, 167, 0, 8, 42, 28]
abbrev dktX2_item_2 : List UInt8 := dkwX2_item_2 ++ dktX2_item_3
def dkwX2_item_1 : List UInt8 := [28, 3, 42, 180, 0, 114, 4, 100, 184, 0, 59, 154, 0, 6, 16, 254, 172, 29, 154, 0, 11, 42, 28]
abbrev dktX2_item_1 : List UInt8 := dkwX2_item_1 ++ dktX2_item_2
def dkwX2_item_0 : List UInt8 := [42, 27, 182, 0, 174, 153, 0, 12, 29, 3, 5, 184, 0, 59, 154, 0, 5, 2, 172, 42, 27, 182, 0, 165]
abbrev dktX2_item_0 : List UInt8 := dkwX2_item_0 ++ dktX2_item_1
theorem dksX2_item_0 : cX2_item.data.toList.drop 0 = dktX2_item_0 := by decide +kernel
theorem dksX2_item_1 : cX2_item.data.toList.drop 24 = dktX2_item_1 := dk_seg dksX2_item_0 24 rfl rfl
theorem dksX2_item_2 : cX2_item.data.toList.drop 47 = dktX2_item_2 := dk_seg dksX2_item_1 23 rfl rfl
theorem dksX2_item_3 : cX2_item.data.toList.drop 71 = dktX2_item_3 := dk_seg dksX2_item_2 24 rfl rfl
theorem dX2_item_0 : decode cX2_item 0 = .ok (.aload_n 0, 1) := dk_42 (dk_at dksX2_item_0 0 rfl rfl)
theorem dX2_item_1 : decode cX2_item 1 = .ok (.iload_n 1, 1) := dk_27 (dk_at dksX2_item_0 1 rfl rfl)
theorem dX2_item_2 : decode cX2_item 2 = .ok (.invokevirtual 174, 3) := dk_182 0 174 (dk_at dksX2_item_0 2 rfl rfl)
theorem dX2_item_5 : decode cX2_item 5 = .ok (.ifCond .eq 12, 3) := dk_153 0 12 (dk_at dksX2_item_0 5 rfl rfl)
theorem dX2_item_8 : decode cX2_item 8 = .ok (.iload_n 3, 1) := dk_29 (dk_at dksX2_item_0 8 rfl rfl)
theorem dX2_item_9 : decode cX2_item 9 = .ok (.iconst 0, 1) := dk_3 (dk_at dksX2_item_0 9 rfl rfl)
theorem dX2_item_10 : decode cX2_item 10 = .ok (.iconst 2, 1) := dk_5 (dk_at dksX2_item_0 10 rfl rfl)
theorem dX2_item_11 : decode cX2_item 11 = .ok (.invokestatic 59, 3) := dk_184 0 59 (dk_at dksX2_item_0 11 rfl rfl)
theorem dX2_item_14 : decode cX2_item 14 = .ok (.ifCond .ne 5, 3) := dk_154 0 5 (dk_at dksX2_item_0 14 rfl rfl)
theorem dX2_item_17 : decode cX2_item 17 = .ok (.iconst (-1), 1) := dk_2 (dk_at dksX2_item_0 17 rfl rfl)
theorem dX2_item_18 : decode cX2_item 18 = .ok (.ireturn, 1) := dk_172 (dk_at dksX2_item_0 18 rfl rfl)
theorem dX2_item_19 : decode cX2_item 19 = .ok (.aload_n 0, 1) := dk_42 (dk_at dksX2_item_0 19 rfl rfl)
theorem dX2_item_20 : decode cX2_item 20 = .ok (.iload_n 1, 1) := dk_27 (dk_at dksX2_item_0 20 rfl rfl)
theorem dX2_item_21 : decode cX2_item 21 = .ok (.invokevirtual 165, 3) := dk_182 0 165 (dk_at dksX2_item_0 21 rfl rfl)
theorem dX2_item_24 : decode cX2_item 24 = .ok (.iload_n 2, 1) := dk_28 (dk_at dksX2_item_1 0 rfl rfl)
theorem dX2_item_25 : decode cX2_item 25 = .ok (.iconst 0, 1) := dk_3 (dk_at dksX2_item_1 1 rfl rfl)
theorem dX2_item_26 : decode cX2_item 26 = .ok (.aload_n 0, 1) := dk_42 (dk_at dksX2_item_1 2 rfl rfl)
theorem dX2_item_27 : decode cX2_item 27 = .ok (.getfield 114, 3) := dk_180 0 114 (dk_at dksX2_item_1 3 rfl rfl)
theorem dX2_item_30 : decode cX2_item 30 = .ok (.iconst 1, 1) := dk_4 (dk_at dksX2_item_1 6 rfl rfl)
theorem dX2_item_31 : decode cX2_item 31 = .ok (.isub, 1) := dk_100 (dk_at dksX2_item_1 7 rfl rfl)
theorem dX2_item_32 : decode cX2_item 32 = .ok (.invokestatic 59, 3) := dk_184 0 59 (dk_at dksX2_item_1 8 rfl rfl)
theorem dX2_item_35 : decode cX2_item 35 = .ok (.ifCond .ne 6, 3) := dk_154 0 6 (dk_at dksX2_item_1 11 rfl rfl)
theorem dX2_item_38 : decode cX2_item 38 = .ok (.bipush (-2), 2) := dk_16 254 (dk_at dksX2_item_1 14 rfl rfl)
theorem dX2_item_40 : decode cX2_item 40 = .ok (.ireturn, 1) := dk_172 (dk_at dksX2_item_1 16 rfl rfl)
theorem dX2_item_41 : decode cX2_item 41 = .ok (.iload_n 3, 1) := dk_29 (dk_at dksX2_item_1 17 rfl rfl)
theorem dX2_item_42 : decode cX2_item 42 = .ok (.ifCond .ne 11, 3) := dk_154 0 11 (dk_at dksX2_item_1 18 rfl rfl)
theorem dX2_item_45 : decode cX2_item 45 = .ok (.aload_n 0, 1) := dk_42 (dk_at dksX2_item_1 21 rfl rfl)
theorem dX2_item_46 : decode cX2_item 46 = .ok (.iload_n 2, 1) := dk_28 (dk_at dksX2_item_1 22 rfl rfl)
theorem dX2_item_47 : decode cX2_item 47 = .ok (.invokevirtual 120, 3) := dk_182 0 120 (dk_at dksX2_item_2 0 rfl rfl)
theorem dX2_item_50 : decode cX2_item 50 = .ok (.goto 24, 3) := dk_167 0 24 (dk_at dksX2_item_2 3 rfl rfl)
theorem dX2_item_53 : decode cX2_item 53 = .ok (.iload_n 3, 1) := dk_29 (dk_at dksX2_item_2 6 rfl rfl)
theorem dX2_item_54 : decode cX2_item 54 = .ok (.iconst 1, 1) := dk_4 (dk_at dksX2_item_2 7 rfl rfl)
theorem dX2_item_55 : decode cX2_item 55 = .ok (.if_icmp .ne 14, 3) := dk_160 0 14 (dk_at dksX2_item_2 8 rfl rfl)
theorem dX2_item_58 : decode cX2_item 58 = .ok (.aload_n 0, 1) := dk_42 (dk_at dksX2_item_2 11 rfl rfl)
theorem dX2_item_59 : decode cX2_item 59 = .ok (.getfield 22, 3) := dk_180 0 22 (dk_at dksX2_item_2 12 rfl rfl)
theorem dX2_item_62 : decode cX2_item 62 = .ok (.iload_n 2, 1) := dk_28 (dk_at dksX2_item_2 15 rfl rfl)
theorem dX2_item_63 : decode cX2_item 63 = .ok (.iaload, 1) := dk_46 (dk_at dksX2_item_2 16 rfl rfl)
theorem dX2_item_64 : decode cX2_item 64 = .ok (.iconst 2, 1) := dk_5 (dk_at dksX2_item_2 17 rfl rfl)
theorem dX2_item_65 : decode cX2_item 65 = .ok (.irem, 1) := dk_112 (dk_at dksX2_item_2 18 rfl rfl)
theorem dX2_item_66 : decode cX2_item 66 = .ok (.goto 8, 3) := dk_167 0 8 (dk_at dksX2_item_2 19 rfl rfl)
theorem dX2_item_69 : decode cX2_item 69 = .ok (.aload_n 0, 1) := dk_42 (dk_at dksX2_item_2 22 rfl rfl)
theorem dX2_item_70 : decode cX2_item 70 = .ok (.iload_n 2, 1) := dk_28 (dk_at dksX2_item_2 23 rfl rfl)
theorem dX2_item_71 : decode cX2_item 71 = .ok (.invokevirtual 186, 3) := dk_182 0 186 (dk_at dksX2_item_3 0 rfl rfl)
theorem dX2_item_74 : decode cX2_item 74 = .ok (.ireturn, 1) := dk_172 (dk_at dksX2_item_3 3 rfl rfl)
abbrev cX2_dutyOf : ByteArray := prog_12_method_46_code
def yX2_dutyOf : MethodName := ⟨RX2, "dutyOf", "(I)I"⟩
def dkwX2_dutyOf_1 : List UInt8 := [61, 132, 3, 1, 167, 255, 232, 28, 172]
abbrev dktX2_dutyOf_1 : List UInt8 := dkwX2_dutyOf_1 ++ []
def dkwX2_dutyOf_0 : List UInt8 := [2, 61, 3, 62, 29, 27, 163, 0, 25, 28, 42, 29, 182, 0, 126, 153, 0, 7, 4, 167, 0, 4, 3, 96]
abbrev dktX2_dutyOf_0 : List UInt8 := dkwX2_dutyOf_0 ++ dktX2_dutyOf_1
theorem dksX2_dutyOf_0 : cX2_dutyOf.data.toList.drop 0 = dktX2_dutyOf_0 := by decide +kernel
theorem dksX2_dutyOf_1 : cX2_dutyOf.data.toList.drop 24 = dktX2_dutyOf_1 := dk_seg dksX2_dutyOf_0 24 rfl rfl
theorem dX2_dutyOf_0 : decode cX2_dutyOf 0 = .ok (.iconst (-1), 1) := dk_2 (dk_at dksX2_dutyOf_0 0 rfl rfl)
theorem dX2_dutyOf_1 : decode cX2_dutyOf 1 = .ok (.istore_n 2, 1) := dk_61 (dk_at dksX2_dutyOf_0 1 rfl rfl)
theorem dX2_dutyOf_2 : decode cX2_dutyOf 2 = .ok (.iconst 0, 1) := dk_3 (dk_at dksX2_dutyOf_0 2 rfl rfl)
theorem dX2_dutyOf_3 : decode cX2_dutyOf 3 = .ok (.istore_n 3, 1) := dk_62 (dk_at dksX2_dutyOf_0 3 rfl rfl)
theorem dX2_dutyOf_4 : decode cX2_dutyOf 4 = .ok (.iload_n 3, 1) := dk_29 (dk_at dksX2_dutyOf_0 4 rfl rfl)
theorem dX2_dutyOf_5 : decode cX2_dutyOf 5 = .ok (.iload_n 1, 1) := dk_27 (dk_at dksX2_dutyOf_0 5 rfl rfl)
theorem dX2_dutyOf_6 : decode cX2_dutyOf 6 = .ok (.if_icmp .gt 25, 3) := dk_163 0 25 (dk_at dksX2_dutyOf_0 6 rfl rfl)
theorem dX2_dutyOf_9 : decode cX2_dutyOf 9 = .ok (.iload_n 2, 1) := dk_28 (dk_at dksX2_dutyOf_0 9 rfl rfl)
theorem dX2_dutyOf_10 : decode cX2_dutyOf 10 = .ok (.aload_n 0, 1) := dk_42 (dk_at dksX2_dutyOf_0 10 rfl rfl)
theorem dX2_dutyOf_11 : decode cX2_dutyOf 11 = .ok (.iload_n 3, 1) := dk_29 (dk_at dksX2_dutyOf_0 11 rfl rfl)
theorem dX2_dutyOf_12 : decode cX2_dutyOf 12 = .ok (.invokevirtual 126, 3) := dk_182 0 126 (dk_at dksX2_dutyOf_0 12 rfl rfl)
theorem dX2_dutyOf_15 : decode cX2_dutyOf 15 = .ok (.ifCond .eq 7, 3) := dk_153 0 7 (dk_at dksX2_dutyOf_0 15 rfl rfl)
theorem dX2_dutyOf_18 : decode cX2_dutyOf 18 = .ok (.iconst 1, 1) := dk_4 (dk_at dksX2_dutyOf_0 18 rfl rfl)
theorem dX2_dutyOf_19 : decode cX2_dutyOf 19 = .ok (.goto 4, 3) := dk_167 0 4 (dk_at dksX2_dutyOf_0 19 rfl rfl)
theorem dX2_dutyOf_22 : decode cX2_dutyOf 22 = .ok (.iconst 0, 1) := dk_3 (dk_at dksX2_dutyOf_0 22 rfl rfl)
theorem dX2_dutyOf_23 : decode cX2_dutyOf 23 = .ok (.iadd, 1) := dk_96 (dk_at dksX2_dutyOf_0 23 rfl rfl)
theorem dX2_dutyOf_24 : decode cX2_dutyOf 24 = .ok (.istore_n 2, 1) := dk_61 (dk_at dksX2_dutyOf_1 0 rfl rfl)
theorem dX2_dutyOf_25 : decode cX2_dutyOf 25 = .ok (.iinc 3 1, 3) := dk_132 3 1 (dk_at dksX2_dutyOf_1 1 rfl rfl)
theorem dX2_dutyOf_28 : decode cX2_dutyOf 28 = .ok (.goto (-24), 3) := dk_167 255 232 (dk_at dksX2_dutyOf_1 4 rfl rfl)
theorem dX2_dutyOf_31 : decode cX2_dutyOf 31 = .ok (.iload_n 2, 1) := dk_28 (dk_at dksX2_dutyOf_1 7 rfl rfl)
theorem dX2_dutyOf_32 : decode cX2_dutyOf 32 = .ok (.ireturn, 1) := dk_172 (dk_at dksX2_dutyOf_1 8 rfl rfl)
abbrev cX2_dutyCount : ByteArray := prog_12_method_48_code
def yX2_dutyCount : MethodName := ⟨RX2, "dutyCount", "(I)I"⟩
def dkwX2_dutyCount_1 : List UInt8 := [182, 0, 186, 4, 96, 172]
abbrev dktX2_dutyCount_1 : List UInt8 := dkwX2_dutyCount_1 ++ []
def dkwX2_dutyCount_0 : List UInt8 := [42, 27, 182, 0, 174, 154, 0, 5, 2, 172, 42, 27, 182, 0, 165, 42, 42, 180, 0, 114, 4, 100]
abbrev dktX2_dutyCount_0 : List UInt8 := dkwX2_dutyCount_0 ++ dktX2_dutyCount_1
theorem dksX2_dutyCount_0 : cX2_dutyCount.data.toList.drop 0 = dktX2_dutyCount_0 := by decide +kernel
theorem dksX2_dutyCount_1 : cX2_dutyCount.data.toList.drop 22 = dktX2_dutyCount_1 := dk_seg dksX2_dutyCount_0 22 rfl rfl
theorem dX2_dutyCount_0 : decode cX2_dutyCount 0 = .ok (.aload_n 0, 1) := dk_42 (dk_at dksX2_dutyCount_0 0 rfl rfl)
theorem dX2_dutyCount_1 : decode cX2_dutyCount 1 = .ok (.iload_n 1, 1) := dk_27 (dk_at dksX2_dutyCount_0 1 rfl rfl)
theorem dX2_dutyCount_2 : decode cX2_dutyCount 2 = .ok (.invokevirtual 174, 3) := dk_182 0 174 (dk_at dksX2_dutyCount_0 2 rfl rfl)
theorem dX2_dutyCount_5 : decode cX2_dutyCount 5 = .ok (.ifCond .ne 5, 3) := dk_154 0 5 (dk_at dksX2_dutyCount_0 5 rfl rfl)
theorem dX2_dutyCount_8 : decode cX2_dutyCount 8 = .ok (.iconst (-1), 1) := dk_2 (dk_at dksX2_dutyCount_0 8 rfl rfl)
theorem dX2_dutyCount_9 : decode cX2_dutyCount 9 = .ok (.ireturn, 1) := dk_172 (dk_at dksX2_dutyCount_0 9 rfl rfl)
theorem dX2_dutyCount_10 : decode cX2_dutyCount 10 = .ok (.aload_n 0, 1) := dk_42 (dk_at dksX2_dutyCount_0 10 rfl rfl)
theorem dX2_dutyCount_11 : decode cX2_dutyCount 11 = .ok (.iload_n 1, 1) := dk_27 (dk_at dksX2_dutyCount_0 11 rfl rfl)
theorem dX2_dutyCount_12 : decode cX2_dutyCount 12 = .ok (.invokevirtual 165, 3) := dk_182 0 165 (dk_at dksX2_dutyCount_0 12 rfl rfl)
theorem dX2_dutyCount_15 : decode cX2_dutyCount 15 = .ok (.aload_n 0, 1) := dk_42 (dk_at dksX2_dutyCount_0 15 rfl rfl)
theorem dX2_dutyCount_16 : decode cX2_dutyCount 16 = .ok (.aload_n 0, 1) := dk_42 (dk_at dksX2_dutyCount_0 16 rfl rfl)
theorem dX2_dutyCount_17 : decode cX2_dutyCount 17 = .ok (.getfield 114, 3) := dk_180 0 114 (dk_at dksX2_dutyCount_0 17 rfl rfl)
theorem dX2_dutyCount_20 : decode cX2_dutyCount 20 = .ok (.iconst 1, 1) := dk_4 (dk_at dksX2_dutyCount_0 20 rfl rfl)
theorem dX2_dutyCount_21 : decode cX2_dutyCount 21 = .ok (.isub, 1) := dk_100 (dk_at dksX2_dutyCount_0 21 rfl rfl)
theorem dX2_dutyCount_22 : decode cX2_dutyCount 22 = .ok (.invokevirtual 186, 3) := dk_182 0 186 (dk_at dksX2_dutyCount_1 0 rfl rfl)
theorem dX2_dutyCount_25 : decode cX2_dutyCount 25 = .ok (.iconst 1, 1) := dk_4 (dk_at dksX2_dutyCount_1 3 rfl rfl)
theorem dX2_dutyCount_26 : decode cX2_dutyCount 26 = .ok (.iadd, 1) := dk_96 (dk_at dksX2_dutyCount_1 4 rfl rfl)
theorem dX2_dutyCount_27 : decode cX2_dutyCount 27 = .ok (.ireturn, 1) := dk_172 (dk_at dksX2_dutyCount_1 5 rfl rfl)
abbrev cX2_duty : ByteArray := prog_12_method_49_code
def yX2_duty : MethodName := ⟨RX2, "duty", "(III)I"⟩
def dkwX2_duty_5 : List UInt8 := [21, 4, 100, 167, 0, 5, 21, 4, 172]
abbrev dktX2_duty_5 : List UInt8 := dkwX2_duty_5 ++ []
def dkwX2_duty_4 : List UInt8 := [29, 4, 160, 0, 14, 42, 21, 4, 21, 5, 182, 0, 144, 167, 0, 18, 29, 5, 160, 0, 11, 21, 5]
abbrev dktX2_duty_4 : List UInt8 := dkwX2_duty_4 ++ dktX2_duty_5
def dkwX2_duty_3 : List UInt8 := [16, 254, 172, 42, 21, 4, 182, 0, 129, 54, 5, 29, 154, 0, 12, 42, 21, 4, 182, 0, 141, 167, 0, 34]
abbrev dktX2_duty_3 : List UInt8 := dkwX2_duty_3 ++ dktX2_duty_4
def dkwX2_duty_2 : List UInt8 := [160, 0, 8, 21, 5, 167, 0, 5, 21, 4, 54, 4, 132, 5, 255, 167, 255, 229, 21, 4, 156, 0, 6]
abbrev dktX2_duty_2 : List UInt8 := dkwX2_duty_2 ++ dktX2_duty_3
def dkwX2_duty_1 : List UInt8 := [2, 54, 4, 42, 180, 0, 114, 4, 100, 54, 5, 21, 5, 155, 0, 28, 42, 21, 5, 182, 0, 186, 28]
abbrev dktX2_duty_1 : List UInt8 := dkwX2_duty_1 ++ dktX2_duty_2
def dkwX2_duty_0 : List UInt8 := [42, 27, 182, 0, 174, 153, 0, 12, 29, 3, 6, 184, 0, 59, 154, 0, 5, 2, 172, 42, 27, 182, 0, 165]
abbrev dktX2_duty_0 : List UInt8 := dkwX2_duty_0 ++ dktX2_duty_1
theorem dksX2_duty_0 : cX2_duty.data.toList.drop 0 = dktX2_duty_0 := by decide +kernel
theorem dksX2_duty_1 : cX2_duty.data.toList.drop 24 = dktX2_duty_1 := dk_seg dksX2_duty_0 24 rfl rfl
theorem dksX2_duty_2 : cX2_duty.data.toList.drop 47 = dktX2_duty_2 := dk_seg dksX2_duty_1 23 rfl rfl
theorem dksX2_duty_3 : cX2_duty.data.toList.drop 70 = dktX2_duty_3 := dk_seg dksX2_duty_2 23 rfl rfl
theorem dksX2_duty_4 : cX2_duty.data.toList.drop 94 = dktX2_duty_4 := dk_seg dksX2_duty_3 24 rfl rfl
theorem dksX2_duty_5 : cX2_duty.data.toList.drop 117 = dktX2_duty_5 := dk_seg dksX2_duty_4 23 rfl rfl
theorem dX2_duty_0 : decode cX2_duty 0 = .ok (.aload_n 0, 1) := dk_42 (dk_at dksX2_duty_0 0 rfl rfl)
theorem dX2_duty_1 : decode cX2_duty 1 = .ok (.iload_n 1, 1) := dk_27 (dk_at dksX2_duty_0 1 rfl rfl)
theorem dX2_duty_2 : decode cX2_duty 2 = .ok (.invokevirtual 174, 3) := dk_182 0 174 (dk_at dksX2_duty_0 2 rfl rfl)
theorem dX2_duty_5 : decode cX2_duty 5 = .ok (.ifCond .eq 12, 3) := dk_153 0 12 (dk_at dksX2_duty_0 5 rfl rfl)
theorem dX2_duty_8 : decode cX2_duty 8 = .ok (.iload_n 3, 1) := dk_29 (dk_at dksX2_duty_0 8 rfl rfl)
theorem dX2_duty_9 : decode cX2_duty 9 = .ok (.iconst 0, 1) := dk_3 (dk_at dksX2_duty_0 9 rfl rfl)
theorem dX2_duty_10 : decode cX2_duty 10 = .ok (.iconst 3, 1) := dk_6 (dk_at dksX2_duty_0 10 rfl rfl)
theorem dX2_duty_11 : decode cX2_duty 11 = .ok (.invokestatic 59, 3) := dk_184 0 59 (dk_at dksX2_duty_0 11 rfl rfl)
theorem dX2_duty_14 : decode cX2_duty 14 = .ok (.ifCond .ne 5, 3) := dk_154 0 5 (dk_at dksX2_duty_0 14 rfl rfl)
theorem dX2_duty_17 : decode cX2_duty 17 = .ok (.iconst (-1), 1) := dk_2 (dk_at dksX2_duty_0 17 rfl rfl)
theorem dX2_duty_18 : decode cX2_duty 18 = .ok (.ireturn, 1) := dk_172 (dk_at dksX2_duty_0 18 rfl rfl)
theorem dX2_duty_19 : decode cX2_duty 19 = .ok (.aload_n 0, 1) := dk_42 (dk_at dksX2_duty_0 19 rfl rfl)
theorem dX2_duty_20 : decode cX2_duty 20 = .ok (.iload_n 1, 1) := dk_27 (dk_at dksX2_duty_0 20 rfl rfl)
theorem dX2_duty_21 : decode cX2_duty 21 = .ok (.invokevirtual 165, 3) := dk_182 0 165 (dk_at dksX2_duty_0 21 rfl rfl)
theorem dX2_duty_24 : decode cX2_duty 24 = .ok (.iconst (-1), 1) := dk_2 (dk_at dksX2_duty_1 0 rfl rfl)
theorem dX2_duty_25 : decode cX2_duty 25 = .ok (.istore 4, 2) := dk_54 4 (dk_at dksX2_duty_1 1 rfl rfl)
theorem dX2_duty_27 : decode cX2_duty 27 = .ok (.aload_n 0, 1) := dk_42 (dk_at dksX2_duty_1 3 rfl rfl)
theorem dX2_duty_28 : decode cX2_duty 28 = .ok (.getfield 114, 3) := dk_180 0 114 (dk_at dksX2_duty_1 4 rfl rfl)
theorem dX2_duty_31 : decode cX2_duty 31 = .ok (.iconst 1, 1) := dk_4 (dk_at dksX2_duty_1 7 rfl rfl)
theorem dX2_duty_32 : decode cX2_duty 32 = .ok (.isub, 1) := dk_100 (dk_at dksX2_duty_1 8 rfl rfl)
theorem dX2_duty_33 : decode cX2_duty 33 = .ok (.istore 5, 2) := dk_54 5 (dk_at dksX2_duty_1 9 rfl rfl)
theorem dX2_duty_35 : decode cX2_duty 35 = .ok (.iload 5, 2) := dk_21 5 (dk_at dksX2_duty_1 11 rfl rfl)
theorem dX2_duty_37 : decode cX2_duty 37 = .ok (.ifCond .lt 28, 3) := dk_155 0 28 (dk_at dksX2_duty_1 13 rfl rfl)
theorem dX2_duty_40 : decode cX2_duty 40 = .ok (.aload_n 0, 1) := dk_42 (dk_at dksX2_duty_1 16 rfl rfl)
theorem dX2_duty_41 : decode cX2_duty 41 = .ok (.iload 5, 2) := dk_21 5 (dk_at dksX2_duty_1 17 rfl rfl)
theorem dX2_duty_43 : decode cX2_duty 43 = .ok (.invokevirtual 186, 3) := dk_182 0 186 (dk_at dksX2_duty_1 19 rfl rfl)
theorem dX2_duty_46 : decode cX2_duty 46 = .ok (.iload_n 2, 1) := dk_28 (dk_at dksX2_duty_1 22 rfl rfl)
theorem dX2_duty_47 : decode cX2_duty 47 = .ok (.if_icmp .ne 8, 3) := dk_160 0 8 (dk_at dksX2_duty_2 0 rfl rfl)
theorem dX2_duty_50 : decode cX2_duty 50 = .ok (.iload 5, 2) := dk_21 5 (dk_at dksX2_duty_2 3 rfl rfl)
theorem dX2_duty_52 : decode cX2_duty 52 = .ok (.goto 5, 3) := dk_167 0 5 (dk_at dksX2_duty_2 5 rfl rfl)
theorem dX2_duty_55 : decode cX2_duty 55 = .ok (.iload 4, 2) := dk_21 4 (dk_at dksX2_duty_2 8 rfl rfl)
theorem dX2_duty_57 : decode cX2_duty 57 = .ok (.istore 4, 2) := dk_54 4 (dk_at dksX2_duty_2 10 rfl rfl)
theorem dX2_duty_59 : decode cX2_duty 59 = .ok (.iinc 5 (-1), 3) := dk_132 5 255 (dk_at dksX2_duty_2 12 rfl rfl)
theorem dX2_duty_62 : decode cX2_duty 62 = .ok (.goto (-27), 3) := dk_167 255 229 (dk_at dksX2_duty_2 15 rfl rfl)
theorem dX2_duty_65 : decode cX2_duty 65 = .ok (.iload 4, 2) := dk_21 4 (dk_at dksX2_duty_2 18 rfl rfl)
theorem dX2_duty_67 : decode cX2_duty 67 = .ok (.ifCond .ge 6, 3) := dk_156 0 6 (dk_at dksX2_duty_2 20 rfl rfl)
theorem dX2_duty_70 : decode cX2_duty 70 = .ok (.bipush (-2), 2) := dk_16 254 (dk_at dksX2_duty_3 0 rfl rfl)
theorem dX2_duty_72 : decode cX2_duty 72 = .ok (.ireturn, 1) := dk_172 (dk_at dksX2_duty_3 2 rfl rfl)
theorem dX2_duty_73 : decode cX2_duty 73 = .ok (.aload_n 0, 1) := dk_42 (dk_at dksX2_duty_3 3 rfl rfl)
theorem dX2_duty_74 : decode cX2_duty 74 = .ok (.iload 4, 2) := dk_21 4 (dk_at dksX2_duty_3 4 rfl rfl)
theorem dX2_duty_76 : decode cX2_duty 76 = .ok (.invokevirtual 129, 3) := dk_182 0 129 (dk_at dksX2_duty_3 6 rfl rfl)
theorem dX2_duty_79 : decode cX2_duty 79 = .ok (.istore 5, 2) := dk_54 5 (dk_at dksX2_duty_3 9 rfl rfl)
theorem dX2_duty_81 : decode cX2_duty 81 = .ok (.iload_n 3, 1) := dk_29 (dk_at dksX2_duty_3 11 rfl rfl)
theorem dX2_duty_82 : decode cX2_duty 82 = .ok (.ifCond .ne 12, 3) := dk_154 0 12 (dk_at dksX2_duty_3 12 rfl rfl)
theorem dX2_duty_85 : decode cX2_duty 85 = .ok (.aload_n 0, 1) := dk_42 (dk_at dksX2_duty_3 15 rfl rfl)
theorem dX2_duty_86 : decode cX2_duty 86 = .ok (.iload 4, 2) := dk_21 4 (dk_at dksX2_duty_3 16 rfl rfl)
theorem dX2_duty_88 : decode cX2_duty 88 = .ok (.invokevirtual 141, 3) := dk_182 0 141 (dk_at dksX2_duty_3 18 rfl rfl)
theorem dX2_duty_91 : decode cX2_duty 91 = .ok (.goto 34, 3) := dk_167 0 34 (dk_at dksX2_duty_3 21 rfl rfl)
theorem dX2_duty_94 : decode cX2_duty 94 = .ok (.iload_n 3, 1) := dk_29 (dk_at dksX2_duty_4 0 rfl rfl)
theorem dX2_duty_95 : decode cX2_duty 95 = .ok (.iconst 1, 1) := dk_4 (dk_at dksX2_duty_4 1 rfl rfl)
theorem dX2_duty_96 : decode cX2_duty 96 = .ok (.if_icmp .ne 14, 3) := dk_160 0 14 (dk_at dksX2_duty_4 2 rfl rfl)
theorem dX2_duty_99 : decode cX2_duty 99 = .ok (.aload_n 0, 1) := dk_42 (dk_at dksX2_duty_4 5 rfl rfl)
theorem dX2_duty_100 : decode cX2_duty 100 = .ok (.iload 4, 2) := dk_21 4 (dk_at dksX2_duty_4 6 rfl rfl)
theorem dX2_duty_102 : decode cX2_duty 102 = .ok (.iload 5, 2) := dk_21 5 (dk_at dksX2_duty_4 8 rfl rfl)
theorem dX2_duty_104 : decode cX2_duty 104 = .ok (.invokevirtual 144, 3) := dk_182 0 144 (dk_at dksX2_duty_4 10 rfl rfl)
theorem dX2_duty_107 : decode cX2_duty 107 = .ok (.goto 18, 3) := dk_167 0 18 (dk_at dksX2_duty_4 13 rfl rfl)
theorem dX2_duty_110 : decode cX2_duty 110 = .ok (.iload_n 3, 1) := dk_29 (dk_at dksX2_duty_4 16 rfl rfl)
theorem dX2_duty_111 : decode cX2_duty 111 = .ok (.iconst 2, 1) := dk_5 (dk_at dksX2_duty_4 17 rfl rfl)
theorem dX2_duty_112 : decode cX2_duty 112 = .ok (.if_icmp .ne 11, 3) := dk_160 0 11 (dk_at dksX2_duty_4 18 rfl rfl)
theorem dX2_duty_115 : decode cX2_duty 115 = .ok (.iload 5, 2) := dk_21 5 (dk_at dksX2_duty_4 21 rfl rfl)
theorem dX2_duty_117 : decode cX2_duty 117 = .ok (.iload 4, 2) := dk_21 4 (dk_at dksX2_duty_5 0 rfl rfl)
theorem dX2_duty_119 : decode cX2_duty 119 = .ok (.isub, 1) := dk_100 (dk_at dksX2_duty_5 2 rfl rfl)
theorem dX2_duty_120 : decode cX2_duty 120 = .ok (.goto 5, 3) := dk_167 0 5 (dk_at dksX2_duty_5 3 rfl rfl)
theorem dX2_duty_123 : decode cX2_duty 123 = .ok (.iload 4, 2) := dk_21 4 (dk_at dksX2_duty_5 6 rfl rfl)
theorem dX2_duty_125 : decode cX2_duty 125 = .ok (.ireturn, 1) := dk_172 (dk_at dksX2_duty_5 8 rfl rfl)
abbrev cX2_violationCount : ByteArray := prog_12_method_50_code
def yX2_violationCount : MethodName := ⟨RX2, "violationCount", "(I)I"⟩
def dkwX2_violationCount_0 : List UInt8 := [42, 27, 182, 0, 174, 154, 0, 5, 2, 172, 42, 27, 182, 0, 165, 42, 182, 0, 189, 172]
abbrev dktX2_violationCount_0 : List UInt8 := dkwX2_violationCount_0 ++ []
theorem dksX2_violationCount_0 : cX2_violationCount.data.toList.drop 0 = dktX2_violationCount_0 := by decide +kernel
theorem dX2_violationCount_0 : decode cX2_violationCount 0 = .ok (.aload_n 0, 1) := dk_42 (dk_at dksX2_violationCount_0 0 rfl rfl)
theorem dX2_violationCount_1 : decode cX2_violationCount 1 = .ok (.iload_n 1, 1) := dk_27 (dk_at dksX2_violationCount_0 1 rfl rfl)
theorem dX2_violationCount_2 : decode cX2_violationCount 2 = .ok (.invokevirtual 174, 3) := dk_182 0 174 (dk_at dksX2_violationCount_0 2 rfl rfl)
theorem dX2_violationCount_5 : decode cX2_violationCount 5 = .ok (.ifCond .ne 5, 3) := dk_154 0 5 (dk_at dksX2_violationCount_0 5 rfl rfl)
theorem dX2_violationCount_8 : decode cX2_violationCount 8 = .ok (.iconst (-1), 1) := dk_2 (dk_at dksX2_violationCount_0 8 rfl rfl)
theorem dX2_violationCount_9 : decode cX2_violationCount 9 = .ok (.ireturn, 1) := dk_172 (dk_at dksX2_violationCount_0 9 rfl rfl)
theorem dX2_violationCount_10 : decode cX2_violationCount 10 = .ok (.aload_n 0, 1) := dk_42 (dk_at dksX2_violationCount_0 10 rfl rfl)
theorem dX2_violationCount_11 : decode cX2_violationCount 11 = .ok (.iload_n 1, 1) := dk_27 (dk_at dksX2_violationCount_0 11 rfl rfl)
theorem dX2_violationCount_12 : decode cX2_violationCount 12 = .ok (.invokevirtual 165, 3) := dk_182 0 165 (dk_at dksX2_violationCount_0 12 rfl rfl)
theorem dX2_violationCount_15 : decode cX2_violationCount 15 = .ok (.aload_n 0, 1) := dk_42 (dk_at dksX2_violationCount_0 15 rfl rfl)
theorem dX2_violationCount_16 : decode cX2_violationCount 16 = .ok (.invokevirtual 189, 3) := dk_182 0 189 (dk_at dksX2_violationCount_0 16 rfl rfl)
theorem dX2_violationCount_19 : decode cX2_violationCount 19 = .ok (.ireturn, 1) := dk_172 (dk_at dksX2_violationCount_0 19 rfl rfl)
abbrev cX2_violations : ByteArray := prog_12_method_35_code
def yX2_violations : MethodName := ⟨RX2, "violations", "()I"⟩
def dkwX2_violations_0 : List UInt8 := [3, 60, 42, 27, 182, 0, 154, 158, 0, 9, 132, 1, 1, 167, 255, 245, 27, 172]
abbrev dktX2_violations_0 : List UInt8 := dkwX2_violations_0 ++ []
theorem dksX2_violations_0 : cX2_violations.data.toList.drop 0 = dktX2_violations_0 := by decide +kernel
theorem dX2_violations_0 : decode cX2_violations 0 = .ok (.iconst 0, 1) := dk_3 (dk_at dksX2_violations_0 0 rfl rfl)
theorem dX2_violations_1 : decode cX2_violations 1 = .ok (.istore_n 1, 1) := dk_60 (dk_at dksX2_violations_0 1 rfl rfl)
theorem dX2_violations_2 : decode cX2_violations 2 = .ok (.aload_n 0, 1) := dk_42 (dk_at dksX2_violations_0 2 rfl rfl)
theorem dX2_violations_3 : decode cX2_violations 3 = .ok (.iload_n 1, 1) := dk_27 (dk_at dksX2_violations_0 3 rfl rfl)
theorem dX2_violations_4 : decode cX2_violations 4 = .ok (.invokevirtual 154, 3) := dk_182 0 154 (dk_at dksX2_violations_0 4 rfl rfl)
theorem dX2_violations_7 : decode cX2_violations 7 = .ok (.ifCond .le 9, 3) := dk_158 0 9 (dk_at dksX2_violations_0 7 rfl rfl)
theorem dX2_violations_10 : decode cX2_violations 10 = .ok (.iinc 1 1, 3) := dk_132 1 1 (dk_at dksX2_violations_0 10 rfl rfl)
theorem dX2_violations_13 : decode cX2_violations 13 = .ok (.goto (-11), 3) := dk_167 255 245 (dk_at dksX2_violations_0 13 rfl rfl)
theorem dX2_violations_16 : decode cX2_violations 16 = .ok (.iload_n 1, 1) := dk_27 (dk_at dksX2_violations_0 16 rfl rfl)
theorem dX2_violations_17 : decode cX2_violations 17 = .ok (.ireturn, 1) := dk_172 (dk_at dksX2_violations_0 17 rfl rfl)
abbrev cX2_violation : ByteArray := prog_12_method_51_code
def yX2_violation : MethodName := ⟨RX2, "violation", "(III)I"⟩
def dkwX2_violation_2 : List UInt8 := [167, 0, 20, 29, 154, 0, 11, 21, 4, 16, 100, 108, 167, 0, 8, 21, 4, 16, 100, 112, 172]
abbrev dktX2_violation_2 : List UInt8 := dkwX2_violation_2 ++ []
def dkwX2_violation_1 : List UInt8 := [28, 156, 0, 7, 3, 167, 0, 8, 42, 28, 182, 0, 154, 54, 4, 21, 4, 154, 0, 8, 16, 254]
abbrev dktX2_violation_1 : List UInt8 := dkwX2_violation_1 ++ dktX2_violation_2
def dkwX2_violation_0 : List UInt8 := [42, 27, 182, 0, 174, 153, 0, 12, 29, 3, 4, 184, 0, 59, 154, 0, 5, 2, 172, 42, 27, 182, 0, 165]
abbrev dktX2_violation_0 : List UInt8 := dkwX2_violation_0 ++ dktX2_violation_1
theorem dksX2_violation_0 : cX2_violation.data.toList.drop 0 = dktX2_violation_0 := by decide +kernel
theorem dksX2_violation_1 : cX2_violation.data.toList.drop 24 = dktX2_violation_1 := dk_seg dksX2_violation_0 24 rfl rfl
theorem dksX2_violation_2 : cX2_violation.data.toList.drop 46 = dktX2_violation_2 := dk_seg dksX2_violation_1 22 rfl rfl
theorem dX2_violation_0 : decode cX2_violation 0 = .ok (.aload_n 0, 1) := dk_42 (dk_at dksX2_violation_0 0 rfl rfl)
theorem dX2_violation_1 : decode cX2_violation 1 = .ok (.iload_n 1, 1) := dk_27 (dk_at dksX2_violation_0 1 rfl rfl)
theorem dX2_violation_2 : decode cX2_violation 2 = .ok (.invokevirtual 174, 3) := dk_182 0 174 (dk_at dksX2_violation_0 2 rfl rfl)
theorem dX2_violation_5 : decode cX2_violation 5 = .ok (.ifCond .eq 12, 3) := dk_153 0 12 (dk_at dksX2_violation_0 5 rfl rfl)
theorem dX2_violation_8 : decode cX2_violation 8 = .ok (.iload_n 3, 1) := dk_29 (dk_at dksX2_violation_0 8 rfl rfl)
theorem dX2_violation_9 : decode cX2_violation 9 = .ok (.iconst 0, 1) := dk_3 (dk_at dksX2_violation_0 9 rfl rfl)
theorem dX2_violation_10 : decode cX2_violation 10 = .ok (.iconst 1, 1) := dk_4 (dk_at dksX2_violation_0 10 rfl rfl)
theorem dX2_violation_11 : decode cX2_violation 11 = .ok (.invokestatic 59, 3) := dk_184 0 59 (dk_at dksX2_violation_0 11 rfl rfl)
theorem dX2_violation_14 : decode cX2_violation 14 = .ok (.ifCond .ne 5, 3) := dk_154 0 5 (dk_at dksX2_violation_0 14 rfl rfl)
theorem dX2_violation_17 : decode cX2_violation 17 = .ok (.iconst (-1), 1) := dk_2 (dk_at dksX2_violation_0 17 rfl rfl)
theorem dX2_violation_18 : decode cX2_violation 18 = .ok (.ireturn, 1) := dk_172 (dk_at dksX2_violation_0 18 rfl rfl)
theorem dX2_violation_19 : decode cX2_violation 19 = .ok (.aload_n 0, 1) := dk_42 (dk_at dksX2_violation_0 19 rfl rfl)
theorem dX2_violation_20 : decode cX2_violation 20 = .ok (.iload_n 1, 1) := dk_27 (dk_at dksX2_violation_0 20 rfl rfl)
theorem dX2_violation_21 : decode cX2_violation 21 = .ok (.invokevirtual 165, 3) := dk_182 0 165 (dk_at dksX2_violation_0 21 rfl rfl)
theorem dX2_violation_24 : decode cX2_violation 24 = .ok (.iload_n 2, 1) := dk_28 (dk_at dksX2_violation_1 0 rfl rfl)
theorem dX2_violation_25 : decode cX2_violation 25 = .ok (.ifCond .ge 7, 3) := dk_156 0 7 (dk_at dksX2_violation_1 1 rfl rfl)
theorem dX2_violation_28 : decode cX2_violation 28 = .ok (.iconst 0, 1) := dk_3 (dk_at dksX2_violation_1 4 rfl rfl)
theorem dX2_violation_29 : decode cX2_violation 29 = .ok (.goto 8, 3) := dk_167 0 8 (dk_at dksX2_violation_1 5 rfl rfl)
theorem dX2_violation_32 : decode cX2_violation 32 = .ok (.aload_n 0, 1) := dk_42 (dk_at dksX2_violation_1 8 rfl rfl)
theorem dX2_violation_33 : decode cX2_violation 33 = .ok (.iload_n 2, 1) := dk_28 (dk_at dksX2_violation_1 9 rfl rfl)
theorem dX2_violation_34 : decode cX2_violation 34 = .ok (.invokevirtual 154, 3) := dk_182 0 154 (dk_at dksX2_violation_1 10 rfl rfl)
theorem dX2_violation_37 : decode cX2_violation 37 = .ok (.istore 4, 2) := dk_54 4 (dk_at dksX2_violation_1 13 rfl rfl)
theorem dX2_violation_39 : decode cX2_violation 39 = .ok (.iload 4, 2) := dk_21 4 (dk_at dksX2_violation_1 15 rfl rfl)
theorem dX2_violation_41 : decode cX2_violation 41 = .ok (.ifCond .ne 8, 3) := dk_154 0 8 (dk_at dksX2_violation_1 17 rfl rfl)
theorem dX2_violation_44 : decode cX2_violation 44 = .ok (.bipush (-2), 2) := dk_16 254 (dk_at dksX2_violation_1 20 rfl rfl)
theorem dX2_violation_46 : decode cX2_violation 46 = .ok (.goto 20, 3) := dk_167 0 20 (dk_at dksX2_violation_2 0 rfl rfl)
theorem dX2_violation_49 : decode cX2_violation 49 = .ok (.iload_n 3, 1) := dk_29 (dk_at dksX2_violation_2 3 rfl rfl)
theorem dX2_violation_50 : decode cX2_violation 50 = .ok (.ifCond .ne 11, 3) := dk_154 0 11 (dk_at dksX2_violation_2 4 rfl rfl)
theorem dX2_violation_53 : decode cX2_violation 53 = .ok (.iload 4, 2) := dk_21 4 (dk_at dksX2_violation_2 7 rfl rfl)
theorem dX2_violation_55 : decode cX2_violation 55 = .ok (.bipush 100, 2) := dk_16 100 (dk_at dksX2_violation_2 9 rfl rfl)
theorem dX2_violation_57 : decode cX2_violation 57 = .ok (.idiv, 1) := dk_108 (dk_at dksX2_violation_2 11 rfl rfl)
theorem dX2_violation_58 : decode cX2_violation 58 = .ok (.goto 8, 3) := dk_167 0 8 (dk_at dksX2_violation_2 12 rfl rfl)
theorem dX2_violation_61 : decode cX2_violation 61 = .ok (.iload 4, 2) := dk_21 4 (dk_at dksX2_violation_2 15 rfl rfl)
theorem dX2_violation_63 : decode cX2_violation 63 = .ok (.bipush 100, 2) := dk_16 100 (dk_at dksX2_violation_2 17 rfl rfl)
theorem dX2_violation_65 : decode cX2_violation 65 = .ok (.irem, 1) := dk_112 (dk_at dksX2_violation_2 19 rfl rfl)
theorem dX2_violation_66 : decode cX2_violation 66 = .ok (.ireturn, 1) := dk_172 (dk_at dksX2_violation_2 20 rfl rfl)
abbrev cX2_minutes : ByteArray := prog_12_method_53_code
def yX2_minutes : MethodName := ⟨RX2, "minutes", "(I)I"⟩
def dkwX2_minutes_0 : List UInt8 := [42, 27, 182, 0, 174, 153, 0, 11, 42, 27, 182, 0, 193, 167, 0, 4, 2, 172]
abbrev dktX2_minutes_0 : List UInt8 := dkwX2_minutes_0 ++ []
theorem dksX2_minutes_0 : cX2_minutes.data.toList.drop 0 = dktX2_minutes_0 := by decide +kernel
theorem dX2_minutes_0 : decode cX2_minutes 0 = .ok (.aload_n 0, 1) := dk_42 (dk_at dksX2_minutes_0 0 rfl rfl)
theorem dX2_minutes_1 : decode cX2_minutes 1 = .ok (.iload_n 1, 1) := dk_27 (dk_at dksX2_minutes_0 1 rfl rfl)
theorem dX2_minutes_2 : decode cX2_minutes 2 = .ok (.invokevirtual 174, 3) := dk_182 0 174 (dk_at dksX2_minutes_0 2 rfl rfl)
theorem dX2_minutes_5 : decode cX2_minutes 5 = .ok (.ifCond .eq 11, 3) := dk_153 0 11 (dk_at dksX2_minutes_0 5 rfl rfl)
theorem dX2_minutes_8 : decode cX2_minutes 8 = .ok (.aload_n 0, 1) := dk_42 (dk_at dksX2_minutes_0 8 rfl rfl)
theorem dX2_minutes_9 : decode cX2_minutes 9 = .ok (.iload_n 1, 1) := dk_27 (dk_at dksX2_minutes_0 9 rfl rfl)
theorem dX2_minutes_10 : decode cX2_minutes 10 = .ok (.invokevirtual 193, 3) := dk_182 0 193 (dk_at dksX2_minutes_0 10 rfl rfl)
theorem dX2_minutes_13 : decode cX2_minutes 13 = .ok (.goto 4, 3) := dk_167 0 4 (dk_at dksX2_minutes_0 13 rfl rfl)
theorem dX2_minutes_16 : decode cX2_minutes 16 = .ok (.iconst (-1), 1) := dk_2 (dk_at dksX2_minutes_0 16 rfl rfl)
theorem dX2_minutes_17 : decode cX2_minutes 17 = .ok (.ireturn, 1) := dk_172 (dk_at dksX2_minutes_0 17 rfl rfl)
abbrev cX2_minutesOf : ByteArray := prog_12_method_52_code
def yX2_minutesOf : MethodName := ⟨RX2, "minutesOf", "(I)I"⟩
def dkwX2_minutesOf_0 : List UInt8 := [42, 27, 182, 0, 165, 42, 3, 42, 180, 0, 114, 182, 0, 144, 172]
abbrev dktX2_minutesOf_0 : List UInt8 := dkwX2_minutesOf_0 ++ []
theorem dksX2_minutesOf_0 : cX2_minutesOf.data.toList.drop 0 = dktX2_minutesOf_0 := by decide +kernel
theorem dX2_minutesOf_0 : decode cX2_minutesOf 0 = .ok (.aload_n 0, 1) := dk_42 (dk_at dksX2_minutesOf_0 0 rfl rfl)
theorem dX2_minutesOf_1 : decode cX2_minutesOf 1 = .ok (.iload_n 1, 1) := dk_27 (dk_at dksX2_minutesOf_0 1 rfl rfl)
theorem dX2_minutesOf_2 : decode cX2_minutesOf 2 = .ok (.invokevirtual 165, 3) := dk_182 0 165 (dk_at dksX2_minutesOf_0 2 rfl rfl)
theorem dX2_minutesOf_5 : decode cX2_minutesOf 5 = .ok (.aload_n 0, 1) := dk_42 (dk_at dksX2_minutesOf_0 5 rfl rfl)
theorem dX2_minutesOf_6 : decode cX2_minutesOf 6 = .ok (.iconst 0, 1) := dk_3 (dk_at dksX2_minutesOf_0 6 rfl rfl)
theorem dX2_minutesOf_7 : decode cX2_minutesOf 7 = .ok (.aload_n 0, 1) := dk_42 (dk_at dksX2_minutesOf_0 7 rfl rfl)
theorem dX2_minutesOf_8 : decode cX2_minutesOf 8 = .ok (.getfield 114, 3) := dk_180 0 114 (dk_at dksX2_minutesOf_0 8 rfl rfl)
theorem dX2_minutesOf_11 : decode cX2_minutesOf 11 = .ok (.invokevirtual 144, 3) := dk_182 0 144 (dk_at dksX2_minutesOf_0 11 rfl rfl)
theorem dX2_minutesOf_14 : decode cX2_minutesOf 14 = .ok (.ireturn, 1) := dk_172 (dk_at dksX2_minutesOf_0 14 rfl rfl)
abbrev cX2_within : ByteArray := prog_12_method_54_code
def yX2_within : MethodName := ⟨RX2, "within", "(III)I"⟩
def dkwX2_within_1 : List UInt8 := [184, 0, 59, 154, 0, 5, 2, 172, 42, 27, 182, 0, 165, 42, 28, 29, 182, 0, 147, 172]
abbrev dktX2_within_1 : List UInt8 := dkwX2_within_1 ++ []
def dkwX2_within_0 : List UInt8 := [42, 27, 182, 0, 174, 153, 0, 25, 28, 3, 17, 23, 111, 184, 0, 59, 153, 0, 14, 29, 4, 17, 23, 112]
abbrev dktX2_within_0 : List UInt8 := dkwX2_within_0 ++ dktX2_within_1
theorem dksX2_within_0 : cX2_within.data.toList.drop 0 = dktX2_within_0 := by decide +kernel
theorem dksX2_within_1 : cX2_within.data.toList.drop 24 = dktX2_within_1 := dk_seg dksX2_within_0 24 rfl rfl
theorem dX2_within_0 : decode cX2_within 0 = .ok (.aload_n 0, 1) := dk_42 (dk_at dksX2_within_0 0 rfl rfl)
theorem dX2_within_1 : decode cX2_within 1 = .ok (.iload_n 1, 1) := dk_27 (dk_at dksX2_within_0 1 rfl rfl)
theorem dX2_within_2 : decode cX2_within 2 = .ok (.invokevirtual 174, 3) := dk_182 0 174 (dk_at dksX2_within_0 2 rfl rfl)
theorem dX2_within_5 : decode cX2_within 5 = .ok (.ifCond .eq 25, 3) := dk_153 0 25 (dk_at dksX2_within_0 5 rfl rfl)
theorem dX2_within_8 : decode cX2_within 8 = .ok (.iload_n 2, 1) := dk_28 (dk_at dksX2_within_0 8 rfl rfl)
theorem dX2_within_9 : decode cX2_within 9 = .ok (.iconst 0, 1) := dk_3 (dk_at dksX2_within_0 9 rfl rfl)
theorem dX2_within_10 : decode cX2_within 10 = .ok (.sipush 5999, 3) := dk_17 23 111 (dk_at dksX2_within_0 10 rfl rfl)
theorem dX2_within_13 : decode cX2_within 13 = .ok (.invokestatic 59, 3) := dk_184 0 59 (dk_at dksX2_within_0 13 rfl rfl)
theorem dX2_within_16 : decode cX2_within 16 = .ok (.ifCond .eq 14, 3) := dk_153 0 14 (dk_at dksX2_within_0 16 rfl rfl)
theorem dX2_within_19 : decode cX2_within 19 = .ok (.iload_n 3, 1) := dk_29 (dk_at dksX2_within_0 19 rfl rfl)
theorem dX2_within_20 : decode cX2_within 20 = .ok (.iconst 1, 1) := dk_4 (dk_at dksX2_within_0 20 rfl rfl)
theorem dX2_within_21 : decode cX2_within 21 = .ok (.sipush 6000, 3) := dk_17 23 112 (dk_at dksX2_within_0 21 rfl rfl)
theorem dX2_within_24 : decode cX2_within 24 = .ok (.invokestatic 59, 3) := dk_184 0 59 (dk_at dksX2_within_1 0 rfl rfl)
theorem dX2_within_27 : decode cX2_within 27 = .ok (.ifCond .ne 5, 3) := dk_154 0 5 (dk_at dksX2_within_1 3 rfl rfl)
theorem dX2_within_30 : decode cX2_within 30 = .ok (.iconst (-1), 1) := dk_2 (dk_at dksX2_within_1 6 rfl rfl)
theorem dX2_within_31 : decode cX2_within 31 = .ok (.ireturn, 1) := dk_172 (dk_at dksX2_within_1 7 rfl rfl)
theorem dX2_within_32 : decode cX2_within 32 = .ok (.aload_n 0, 1) := dk_42 (dk_at dksX2_within_1 8 rfl rfl)
theorem dX2_within_33 : decode cX2_within 33 = .ok (.iload_n 1, 1) := dk_27 (dk_at dksX2_within_1 9 rfl rfl)
theorem dX2_within_34 : decode cX2_within 34 = .ok (.invokevirtual 165, 3) := dk_182 0 165 (dk_at dksX2_within_1 10 rfl rfl)
theorem dX2_within_37 : decode cX2_within 37 = .ok (.aload_n 0, 1) := dk_42 (dk_at dksX2_within_1 13 rfl rfl)
theorem dX2_within_38 : decode cX2_within 38 = .ok (.iload_n 2, 1) := dk_28 (dk_at dksX2_within_1 14 rfl rfl)
theorem dX2_within_39 : decode cX2_within 39 = .ok (.iload_n 3, 1) := dk_29 (dk_at dksX2_within_1 15 rfl rfl)
theorem dX2_within_40 : decode cX2_within 40 = .ok (.invokevirtual 147, 3) := dk_182 0 147 (dk_at dksX2_within_1 16 rfl rfl)
theorem dX2_within_43 : decode cX2_within 43 = .ok (.ireturn, 1) := dk_172 (dk_at dksX2_within_1 19 rfl rfl)
abbrev cX2_home : ByteArray := prog_12_method_56_code
def yX2_home : MethodName := ⟨RX2, "home", "(I)I"⟩
def dkwX2_home_1 : List UInt8 := [167, 0, 4, 3, 172]
abbrev dktX2_home_1 : List UInt8 := dkwX2_home_1 ++ []
def dkwX2_home_0 : List UInt8 := [42, 27, 182, 0, 174, 154, 0, 5, 2, 172, 42, 27, 182, 0, 165, 42, 182, 0, 196, 153, 0, 7, 4]
abbrev dktX2_home_0 : List UInt8 := dkwX2_home_0 ++ dktX2_home_1
theorem dksX2_home_0 : cX2_home.data.toList.drop 0 = dktX2_home_0 := by decide +kernel
theorem dksX2_home_1 : cX2_home.data.toList.drop 23 = dktX2_home_1 := dk_seg dksX2_home_0 23 rfl rfl
theorem dX2_home_0 : decode cX2_home 0 = .ok (.aload_n 0, 1) := dk_42 (dk_at dksX2_home_0 0 rfl rfl)
theorem dX2_home_1 : decode cX2_home 1 = .ok (.iload_n 1, 1) := dk_27 (dk_at dksX2_home_0 1 rfl rfl)
theorem dX2_home_2 : decode cX2_home 2 = .ok (.invokevirtual 174, 3) := dk_182 0 174 (dk_at dksX2_home_0 2 rfl rfl)
theorem dX2_home_5 : decode cX2_home 5 = .ok (.ifCond .ne 5, 3) := dk_154 0 5 (dk_at dksX2_home_0 5 rfl rfl)
theorem dX2_home_8 : decode cX2_home 8 = .ok (.iconst (-1), 1) := dk_2 (dk_at dksX2_home_0 8 rfl rfl)
theorem dX2_home_9 : decode cX2_home 9 = .ok (.ireturn, 1) := dk_172 (dk_at dksX2_home_0 9 rfl rfl)
theorem dX2_home_10 : decode cX2_home 10 = .ok (.aload_n 0, 1) := dk_42 (dk_at dksX2_home_0 10 rfl rfl)
theorem dX2_home_11 : decode cX2_home 11 = .ok (.iload_n 1, 1) := dk_27 (dk_at dksX2_home_0 11 rfl rfl)
theorem dX2_home_12 : decode cX2_home 12 = .ok (.invokevirtual 165, 3) := dk_182 0 165 (dk_at dksX2_home_0 12 rfl rfl)
theorem dX2_home_15 : decode cX2_home 15 = .ok (.aload_n 0, 1) := dk_42 (dk_at dksX2_home_0 15 rfl rfl)
theorem dX2_home_16 : decode cX2_home 16 = .ok (.invokevirtual 196, 3) := dk_182 0 196 (dk_at dksX2_home_0 16 rfl rfl)
theorem dX2_home_19 : decode cX2_home 19 = .ok (.ifCond .eq 7, 3) := dk_153 0 7 (dk_at dksX2_home_0 19 rfl rfl)
theorem dX2_home_22 : decode cX2_home 22 = .ok (.iconst 1, 1) := dk_4 (dk_at dksX2_home_0 22 rfl rfl)
theorem dX2_home_23 : decode cX2_home 23 = .ok (.goto 4, 3) := dk_167 0 4 (dk_at dksX2_home_1 0 rfl rfl)
theorem dX2_home_26 : decode cX2_home 26 = .ok (.iconst 0, 1) := dk_3 (dk_at dksX2_home_1 3 rfl rfl)
theorem dX2_home_27 : decode cX2_home 27 = .ok (.ireturn, 1) := dk_172 (dk_at dksX2_home_1 4 rfl rfl)
abbrev cX2_isHome : ByteArray := prog_12_method_55_code
def yX2_isHome : MethodName := ⟨RX2, "isHome", "()Z"⟩
def dkwX2_isHome_1 : List UInt8 := [180, 0, 117, 160, 0, 7, 4, 167, 0, 4, 3, 172]
abbrev dktX2_isHome_1 : List UInt8 := dkwX2_isHome_1 ++ []
def dkwX2_isHome_0 : List UInt8 := [42, 180, 0, 114, 153, 0, 25, 42, 42, 42, 180, 0, 114, 4, 100, 182, 0, 120, 4, 182, 0, 63, 42]
abbrev dktX2_isHome_0 : List UInt8 := dkwX2_isHome_0 ++ dktX2_isHome_1
theorem dksX2_isHome_0 : cX2_isHome.data.toList.drop 0 = dktX2_isHome_0 := by decide +kernel
theorem dksX2_isHome_1 : cX2_isHome.data.toList.drop 23 = dktX2_isHome_1 := dk_seg dksX2_isHome_0 23 rfl rfl
theorem dX2_isHome_0 : decode cX2_isHome 0 = .ok (.aload_n 0, 1) := dk_42 (dk_at dksX2_isHome_0 0 rfl rfl)
theorem dX2_isHome_1 : decode cX2_isHome 1 = .ok (.getfield 114, 3) := dk_180 0 114 (dk_at dksX2_isHome_0 1 rfl rfl)
theorem dX2_isHome_4 : decode cX2_isHome 4 = .ok (.ifCond .eq 25, 3) := dk_153 0 25 (dk_at dksX2_isHome_0 4 rfl rfl)
theorem dX2_isHome_7 : decode cX2_isHome 7 = .ok (.aload_n 0, 1) := dk_42 (dk_at dksX2_isHome_0 7 rfl rfl)
theorem dX2_isHome_8 : decode cX2_isHome 8 = .ok (.aload_n 0, 1) := dk_42 (dk_at dksX2_isHome_0 8 rfl rfl)
theorem dX2_isHome_9 : decode cX2_isHome 9 = .ok (.aload_n 0, 1) := dk_42 (dk_at dksX2_isHome_0 9 rfl rfl)
theorem dX2_isHome_10 : decode cX2_isHome 10 = .ok (.getfield 114, 3) := dk_180 0 114 (dk_at dksX2_isHome_0 10 rfl rfl)
theorem dX2_isHome_13 : decode cX2_isHome 13 = .ok (.iconst 1, 1) := dk_4 (dk_at dksX2_isHome_0 13 rfl rfl)
theorem dX2_isHome_14 : decode cX2_isHome 14 = .ok (.isub, 1) := dk_100 (dk_at dksX2_isHome_0 14 rfl rfl)
theorem dX2_isHome_15 : decode cX2_isHome 15 = .ok (.invokevirtual 120, 3) := dk_182 0 120 (dk_at dksX2_isHome_0 15 rfl rfl)
theorem dX2_isHome_18 : decode cX2_isHome 18 = .ok (.iconst 1, 1) := dk_4 (dk_at dksX2_isHome_0 18 rfl rfl)
theorem dX2_isHome_19 : decode cX2_isHome 19 = .ok (.invokevirtual 63, 3) := dk_182 0 63 (dk_at dksX2_isHome_0 19 rfl rfl)
theorem dX2_isHome_22 : decode cX2_isHome 22 = .ok (.aload_n 0, 1) := dk_42 (dk_at dksX2_isHome_0 22 rfl rfl)
theorem dX2_isHome_23 : decode cX2_isHome 23 = .ok (.getfield 117, 3) := dk_180 0 117 (dk_at dksX2_isHome_1 0 rfl rfl)
theorem dX2_isHome_26 : decode cX2_isHome 26 = .ok (.if_icmp .ne 7, 3) := dk_160 0 7 (dk_at dksX2_isHome_1 3 rfl rfl)
theorem dX2_isHome_29 : decode cX2_isHome 29 = .ok (.iconst 1, 1) := dk_4 (dk_at dksX2_isHome_1 6 rfl rfl)
theorem dX2_isHome_30 : decode cX2_isHome 30 = .ok (.goto 4, 3) := dk_167 0 4 (dk_at dksX2_isHome_1 7 rfl rfl)
theorem dX2_isHome_33 : decode cX2_isHome 33 = .ok (.iconst 0, 1) := dk_3 (dk_at dksX2_isHome_1 10 rfl rfl)
theorem dX2_isHome_34 : decode cX2_isHome 34 = .ok (.ireturn, 1) := dk_172 (dk_at dksX2_isHome_1 11 rfl rfl)
abbrev cX2_pairings : ByteArray := prog_12_method_57_code
def yX2_pairings : MethodName := ⟨RX2, "pairings", "(I)I"⟩
def dkwX2_pairings_3 : List UInt8 := [132, 3, 1, 167, 255, 200, 28, 172]
abbrev dktX2_pairings_3 : List UInt8 := dkwX2_pairings_3 ++ []
def dkwX2_pairings_2 : List UInt8 := [42, 180, 0, 114, 159, 0, 13, 42, 29, 4, 96, 182, 0, 126, 153, 0, 7, 4, 167, 0, 4, 3, 96, 61]
abbrev dktX2_pairings_2 : List UInt8 := dkwX2_pairings_2 ++ dktX2_pairings_3
def dkwX2_pairings_1 : List UInt8 := [162, 0, 54, 28, 42, 42, 29, 182, 0, 120, 4, 182, 0, 63, 42, 180, 0, 117, 160, 0, 27, 29, 4, 96]
abbrev dktX2_pairings_1 : List UInt8 := dkwX2_pairings_1 ++ dktX2_pairings_2
def dkwX2_pairings_0 : List UInt8 := [42, 27, 182, 0, 174, 154, 0, 5, 2, 172, 42, 27, 182, 0, 165, 3, 61, 3, 62, 29, 42, 180, 0, 114]
abbrev dktX2_pairings_0 : List UInt8 := dkwX2_pairings_0 ++ dktX2_pairings_1
theorem dksX2_pairings_0 : cX2_pairings.data.toList.drop 0 = dktX2_pairings_0 := by decide +kernel
theorem dksX2_pairings_1 : cX2_pairings.data.toList.drop 24 = dktX2_pairings_1 := dk_seg dksX2_pairings_0 24 rfl rfl
theorem dksX2_pairings_2 : cX2_pairings.data.toList.drop 48 = dktX2_pairings_2 := dk_seg dksX2_pairings_1 24 rfl rfl
theorem dksX2_pairings_3 : cX2_pairings.data.toList.drop 72 = dktX2_pairings_3 := dk_seg dksX2_pairings_2 24 rfl rfl
theorem dX2_pairings_0 : decode cX2_pairings 0 = .ok (.aload_n 0, 1) := dk_42 (dk_at dksX2_pairings_0 0 rfl rfl)
theorem dX2_pairings_1 : decode cX2_pairings 1 = .ok (.iload_n 1, 1) := dk_27 (dk_at dksX2_pairings_0 1 rfl rfl)
theorem dX2_pairings_2 : decode cX2_pairings 2 = .ok (.invokevirtual 174, 3) := dk_182 0 174 (dk_at dksX2_pairings_0 2 rfl rfl)
theorem dX2_pairings_5 : decode cX2_pairings 5 = .ok (.ifCond .ne 5, 3) := dk_154 0 5 (dk_at dksX2_pairings_0 5 rfl rfl)
theorem dX2_pairings_8 : decode cX2_pairings 8 = .ok (.iconst (-1), 1) := dk_2 (dk_at dksX2_pairings_0 8 rfl rfl)
theorem dX2_pairings_9 : decode cX2_pairings 9 = .ok (.ireturn, 1) := dk_172 (dk_at dksX2_pairings_0 9 rfl rfl)
theorem dX2_pairings_10 : decode cX2_pairings 10 = .ok (.aload_n 0, 1) := dk_42 (dk_at dksX2_pairings_0 10 rfl rfl)
theorem dX2_pairings_11 : decode cX2_pairings 11 = .ok (.iload_n 1, 1) := dk_27 (dk_at dksX2_pairings_0 11 rfl rfl)
theorem dX2_pairings_12 : decode cX2_pairings 12 = .ok (.invokevirtual 165, 3) := dk_182 0 165 (dk_at dksX2_pairings_0 12 rfl rfl)
theorem dX2_pairings_15 : decode cX2_pairings 15 = .ok (.iconst 0, 1) := dk_3 (dk_at dksX2_pairings_0 15 rfl rfl)
theorem dX2_pairings_16 : decode cX2_pairings 16 = .ok (.istore_n 2, 1) := dk_61 (dk_at dksX2_pairings_0 16 rfl rfl)
theorem dX2_pairings_17 : decode cX2_pairings 17 = .ok (.iconst 0, 1) := dk_3 (dk_at dksX2_pairings_0 17 rfl rfl)
theorem dX2_pairings_18 : decode cX2_pairings 18 = .ok (.istore_n 3, 1) := dk_62 (dk_at dksX2_pairings_0 18 rfl rfl)
theorem dX2_pairings_19 : decode cX2_pairings 19 = .ok (.iload_n 3, 1) := dk_29 (dk_at dksX2_pairings_0 19 rfl rfl)
theorem dX2_pairings_20 : decode cX2_pairings 20 = .ok (.aload_n 0, 1) := dk_42 (dk_at dksX2_pairings_0 20 rfl rfl)
theorem dX2_pairings_21 : decode cX2_pairings 21 = .ok (.getfield 114, 3) := dk_180 0 114 (dk_at dksX2_pairings_0 21 rfl rfl)
theorem dX2_pairings_24 : decode cX2_pairings 24 = .ok (.if_icmp .ge 54, 3) := dk_162 0 54 (dk_at dksX2_pairings_1 0 rfl rfl)
theorem dX2_pairings_27 : decode cX2_pairings 27 = .ok (.iload_n 2, 1) := dk_28 (dk_at dksX2_pairings_1 3 rfl rfl)
theorem dX2_pairings_28 : decode cX2_pairings 28 = .ok (.aload_n 0, 1) := dk_42 (dk_at dksX2_pairings_1 4 rfl rfl)
theorem dX2_pairings_29 : decode cX2_pairings 29 = .ok (.aload_n 0, 1) := dk_42 (dk_at dksX2_pairings_1 5 rfl rfl)
theorem dX2_pairings_30 : decode cX2_pairings 30 = .ok (.iload_n 3, 1) := dk_29 (dk_at dksX2_pairings_1 6 rfl rfl)
theorem dX2_pairings_31 : decode cX2_pairings 31 = .ok (.invokevirtual 120, 3) := dk_182 0 120 (dk_at dksX2_pairings_1 7 rfl rfl)
theorem dX2_pairings_34 : decode cX2_pairings 34 = .ok (.iconst 1, 1) := dk_4 (dk_at dksX2_pairings_1 10 rfl rfl)
theorem dX2_pairings_35 : decode cX2_pairings 35 = .ok (.invokevirtual 63, 3) := dk_182 0 63 (dk_at dksX2_pairings_1 11 rfl rfl)
theorem dX2_pairings_38 : decode cX2_pairings 38 = .ok (.aload_n 0, 1) := dk_42 (dk_at dksX2_pairings_1 14 rfl rfl)
theorem dX2_pairings_39 : decode cX2_pairings 39 = .ok (.getfield 117, 3) := dk_180 0 117 (dk_at dksX2_pairings_1 15 rfl rfl)
theorem dX2_pairings_42 : decode cX2_pairings 42 = .ok (.if_icmp .ne 27, 3) := dk_160 0 27 (dk_at dksX2_pairings_1 18 rfl rfl)
theorem dX2_pairings_45 : decode cX2_pairings 45 = .ok (.iload_n 3, 1) := dk_29 (dk_at dksX2_pairings_1 21 rfl rfl)
theorem dX2_pairings_46 : decode cX2_pairings 46 = .ok (.iconst 1, 1) := dk_4 (dk_at dksX2_pairings_1 22 rfl rfl)
theorem dX2_pairings_47 : decode cX2_pairings 47 = .ok (.iadd, 1) := dk_96 (dk_at dksX2_pairings_1 23 rfl rfl)
theorem dX2_pairings_48 : decode cX2_pairings 48 = .ok (.aload_n 0, 1) := dk_42 (dk_at dksX2_pairings_2 0 rfl rfl)
theorem dX2_pairings_49 : decode cX2_pairings 49 = .ok (.getfield 114, 3) := dk_180 0 114 (dk_at dksX2_pairings_2 1 rfl rfl)
theorem dX2_pairings_52 : decode cX2_pairings 52 = .ok (.if_icmp .eq 13, 3) := dk_159 0 13 (dk_at dksX2_pairings_2 4 rfl rfl)
theorem dX2_pairings_55 : decode cX2_pairings 55 = .ok (.aload_n 0, 1) := dk_42 (dk_at dksX2_pairings_2 7 rfl rfl)
theorem dX2_pairings_56 : decode cX2_pairings 56 = .ok (.iload_n 3, 1) := dk_29 (dk_at dksX2_pairings_2 8 rfl rfl)
theorem dX2_pairings_57 : decode cX2_pairings 57 = .ok (.iconst 1, 1) := dk_4 (dk_at dksX2_pairings_2 9 rfl rfl)
theorem dX2_pairings_58 : decode cX2_pairings 58 = .ok (.iadd, 1) := dk_96 (dk_at dksX2_pairings_2 10 rfl rfl)
theorem dX2_pairings_59 : decode cX2_pairings 59 = .ok (.invokevirtual 126, 3) := dk_182 0 126 (dk_at dksX2_pairings_2 11 rfl rfl)
theorem dX2_pairings_62 : decode cX2_pairings 62 = .ok (.ifCond .eq 7, 3) := dk_153 0 7 (dk_at dksX2_pairings_2 14 rfl rfl)
theorem dX2_pairings_65 : decode cX2_pairings 65 = .ok (.iconst 1, 1) := dk_4 (dk_at dksX2_pairings_2 17 rfl rfl)
theorem dX2_pairings_66 : decode cX2_pairings 66 = .ok (.goto 4, 3) := dk_167 0 4 (dk_at dksX2_pairings_2 18 rfl rfl)
theorem dX2_pairings_69 : decode cX2_pairings 69 = .ok (.iconst 0, 1) := dk_3 (dk_at dksX2_pairings_2 21 rfl rfl)
theorem dX2_pairings_70 : decode cX2_pairings 70 = .ok (.iadd, 1) := dk_96 (dk_at dksX2_pairings_2 22 rfl rfl)
theorem dX2_pairings_71 : decode cX2_pairings 71 = .ok (.istore_n 2, 1) := dk_61 (dk_at dksX2_pairings_2 23 rfl rfl)
theorem dX2_pairings_72 : decode cX2_pairings 72 = .ok (.iinc 3 1, 3) := dk_132 3 1 (dk_at dksX2_pairings_3 0 rfl rfl)
theorem dX2_pairings_75 : decode cX2_pairings 75 = .ok (.goto (-56), 3) := dk_167 255 200 (dk_at dksX2_pairings_3 3 rfl rfl)
theorem dX2_pairings_78 : decode cX2_pairings 78 = .ok (.iload_n 2, 1) := dk_28 (dk_at dksX2_pairings_3 6 rfl rfl)
theorem dX2_pairings_79 : decode cX2_pairings 79 = .ok (.ireturn, 1) := dk_172 (dk_at dksX2_pairings_3 7 rfl rfl)
abbrev cX2_cost : ByteArray := prog_12_method_59_code
def yX2_cost : MethodName := ⟨RX2, "cost", "(II)I"⟩
def dkwX2_cost_3 : List UInt8 := [29, 172]
abbrev dktX2_cost_3 : List UInt8 := dkwX2_cost_3 ++ []
def dkwX2_cost_2 : List UInt8 := [21, 4, 160, 0, 13, 42, 21, 4, 28, 182, 0, 200, 167, 0, 4, 3, 96, 62, 132, 4, 1, 167, 255, 217]
abbrev dktX2_cost_2 : List UInt8 := dkwX2_cost_2 ++ dktX2_cost_3
def dkwX2_cost_1 : List UInt8 := [3, 62, 3, 54, 4, 21, 4, 42, 180, 0, 9, 4, 46, 162, 0, 34, 29, 27, 2, 159, 0, 9, 27]
abbrev dktX2_cost_1 : List UInt8 := dkwX2_cost_1 ++ dktX2_cost_2
def dkwX2_cost_0 : List UInt8 := [27, 2, 159, 0, 11, 42, 27, 182, 0, 174, 153, 0, 12, 28, 3, 5, 184, 0, 59, 154, 0, 5, 2, 172]
abbrev dktX2_cost_0 : List UInt8 := dkwX2_cost_0 ++ dktX2_cost_1
theorem dksX2_cost_0 : cX2_cost.data.toList.drop 0 = dktX2_cost_0 := by decide +kernel
theorem dksX2_cost_1 : cX2_cost.data.toList.drop 24 = dktX2_cost_1 := dk_seg dksX2_cost_0 24 rfl rfl
theorem dksX2_cost_2 : cX2_cost.data.toList.drop 47 = dktX2_cost_2 := dk_seg dksX2_cost_1 23 rfl rfl
theorem dksX2_cost_3 : cX2_cost.data.toList.drop 71 = dktX2_cost_3 := dk_seg dksX2_cost_2 24 rfl rfl
theorem dX2_cost_0 : decode cX2_cost 0 = .ok (.iload_n 1, 1) := dk_27 (dk_at dksX2_cost_0 0 rfl rfl)
theorem dX2_cost_1 : decode cX2_cost 1 = .ok (.iconst (-1), 1) := dk_2 (dk_at dksX2_cost_0 1 rfl rfl)
theorem dX2_cost_2 : decode cX2_cost 2 = .ok (.if_icmp .eq 11, 3) := dk_159 0 11 (dk_at dksX2_cost_0 2 rfl rfl)
theorem dX2_cost_5 : decode cX2_cost 5 = .ok (.aload_n 0, 1) := dk_42 (dk_at dksX2_cost_0 5 rfl rfl)
theorem dX2_cost_6 : decode cX2_cost 6 = .ok (.iload_n 1, 1) := dk_27 (dk_at dksX2_cost_0 6 rfl rfl)
theorem dX2_cost_7 : decode cX2_cost 7 = .ok (.invokevirtual 174, 3) := dk_182 0 174 (dk_at dksX2_cost_0 7 rfl rfl)
theorem dX2_cost_10 : decode cX2_cost 10 = .ok (.ifCond .eq 12, 3) := dk_153 0 12 (dk_at dksX2_cost_0 10 rfl rfl)
theorem dX2_cost_13 : decode cX2_cost 13 = .ok (.iload_n 2, 1) := dk_28 (dk_at dksX2_cost_0 13 rfl rfl)
theorem dX2_cost_14 : decode cX2_cost 14 = .ok (.iconst 0, 1) := dk_3 (dk_at dksX2_cost_0 14 rfl rfl)
theorem dX2_cost_15 : decode cX2_cost 15 = .ok (.iconst 2, 1) := dk_5 (dk_at dksX2_cost_0 15 rfl rfl)
theorem dX2_cost_16 : decode cX2_cost 16 = .ok (.invokestatic 59, 3) := dk_184 0 59 (dk_at dksX2_cost_0 16 rfl rfl)
theorem dX2_cost_19 : decode cX2_cost 19 = .ok (.ifCond .ne 5, 3) := dk_154 0 5 (dk_at dksX2_cost_0 19 rfl rfl)
theorem dX2_cost_22 : decode cX2_cost 22 = .ok (.iconst (-1), 1) := dk_2 (dk_at dksX2_cost_0 22 rfl rfl)
theorem dX2_cost_23 : decode cX2_cost 23 = .ok (.ireturn, 1) := dk_172 (dk_at dksX2_cost_0 23 rfl rfl)
theorem dX2_cost_24 : decode cX2_cost 24 = .ok (.iconst 0, 1) := dk_3 (dk_at dksX2_cost_1 0 rfl rfl)
theorem dX2_cost_25 : decode cX2_cost 25 = .ok (.istore_n 3, 1) := dk_62 (dk_at dksX2_cost_1 1 rfl rfl)
theorem dX2_cost_26 : decode cX2_cost 26 = .ok (.iconst 0, 1) := dk_3 (dk_at dksX2_cost_1 2 rfl rfl)
theorem dX2_cost_27 : decode cX2_cost 27 = .ok (.istore 4, 2) := dk_54 4 (dk_at dksX2_cost_1 3 rfl rfl)
theorem dX2_cost_29 : decode cX2_cost 29 = .ok (.iload 4, 2) := dk_21 4 (dk_at dksX2_cost_1 5 rfl rfl)
theorem dX2_cost_31 : decode cX2_cost 31 = .ok (.aload_n 0, 1) := dk_42 (dk_at dksX2_cost_1 7 rfl rfl)
theorem dX2_cost_32 : decode cX2_cost 32 = .ok (.getfield 9, 3) := dk_180 0 9 (dk_at dksX2_cost_1 8 rfl rfl)
theorem dX2_cost_35 : decode cX2_cost 35 = .ok (.iconst 1, 1) := dk_4 (dk_at dksX2_cost_1 11 rfl rfl)
theorem dX2_cost_36 : decode cX2_cost 36 = .ok (.iaload, 1) := dk_46 (dk_at dksX2_cost_1 12 rfl rfl)
theorem dX2_cost_37 : decode cX2_cost 37 = .ok (.if_icmp .ge 34, 3) := dk_162 0 34 (dk_at dksX2_cost_1 13 rfl rfl)
theorem dX2_cost_40 : decode cX2_cost 40 = .ok (.iload_n 3, 1) := dk_29 (dk_at dksX2_cost_1 16 rfl rfl)
theorem dX2_cost_41 : decode cX2_cost 41 = .ok (.iload_n 1, 1) := dk_27 (dk_at dksX2_cost_1 17 rfl rfl)
theorem dX2_cost_42 : decode cX2_cost 42 = .ok (.iconst (-1), 1) := dk_2 (dk_at dksX2_cost_1 18 rfl rfl)
theorem dX2_cost_43 : decode cX2_cost 43 = .ok (.if_icmp .eq 9, 3) := dk_159 0 9 (dk_at dksX2_cost_1 19 rfl rfl)
theorem dX2_cost_46 : decode cX2_cost 46 = .ok (.iload_n 1, 1) := dk_27 (dk_at dksX2_cost_1 22 rfl rfl)
theorem dX2_cost_47 : decode cX2_cost 47 = .ok (.iload 4, 2) := dk_21 4 (dk_at dksX2_cost_2 0 rfl rfl)
theorem dX2_cost_49 : decode cX2_cost 49 = .ok (.if_icmp .ne 13, 3) := dk_160 0 13 (dk_at dksX2_cost_2 2 rfl rfl)
theorem dX2_cost_52 : decode cX2_cost 52 = .ok (.aload_n 0, 1) := dk_42 (dk_at dksX2_cost_2 5 rfl rfl)
theorem dX2_cost_53 : decode cX2_cost 53 = .ok (.iload 4, 2) := dk_21 4 (dk_at dksX2_cost_2 6 rfl rfl)
theorem dX2_cost_55 : decode cX2_cost 55 = .ok (.iload_n 2, 1) := dk_28 (dk_at dksX2_cost_2 8 rfl rfl)
theorem dX2_cost_56 : decode cX2_cost 56 = .ok (.invokevirtual 200, 3) := dk_182 0 200 (dk_at dksX2_cost_2 9 rfl rfl)
theorem dX2_cost_59 : decode cX2_cost 59 = .ok (.goto 4, 3) := dk_167 0 4 (dk_at dksX2_cost_2 12 rfl rfl)
theorem dX2_cost_62 : decode cX2_cost 62 = .ok (.iconst 0, 1) := dk_3 (dk_at dksX2_cost_2 15 rfl rfl)
theorem dX2_cost_63 : decode cX2_cost 63 = .ok (.iadd, 1) := dk_96 (dk_at dksX2_cost_2 16 rfl rfl)
theorem dX2_cost_64 : decode cX2_cost 64 = .ok (.istore_n 3, 1) := dk_62 (dk_at dksX2_cost_2 17 rfl rfl)
theorem dX2_cost_65 : decode cX2_cost 65 = .ok (.iinc 4 1, 3) := dk_132 4 1 (dk_at dksX2_cost_2 18 rfl rfl)
theorem dX2_cost_68 : decode cX2_cost 68 = .ok (.goto (-39), 3) := dk_167 255 217 (dk_at dksX2_cost_2 21 rfl rfl)
theorem dX2_cost_71 : decode cX2_cost 71 = .ok (.iload_n 3, 1) := dk_29 (dk_at dksX2_cost_3 0 rfl rfl)
theorem dX2_cost_72 : decode cX2_cost 72 = .ok (.ireturn, 1) := dk_172 (dk_at dksX2_cost_3 1 rfl rfl)
abbrev cX2_costOf : ByteArray := prog_12_method_58_code
def yX2_costOf : MethodName := ⟨RX2, "costOf", "(II)I"⟩
def dkwX2_costOf_6 : List UInt8 := [96, 172]
abbrev dktX2_costOf_6 : List UInt8 := dkwX2_costOf_6 ++ []
def dkwX2_costOf_5 : List UInt8 := [167, 255, 154, 28, 154, 0, 7, 29, 167, 0, 17, 28, 4, 160, 0, 8, 21, 4, 167, 0, 7, 29, 21, 4]
abbrev dktX2_costOf_5 : List UInt8 := dkwX2_costOf_5 ++ dktX2_costOf_6
def dkwX2_costOf_4 : List UInt8 := [180, 0, 117, 159, 0, 13, 42, 180, 0, 9, 16, 9, 46, 167, 0, 4, 3, 96, 54, 4, 132, 5, 1]
abbrev dktX2_costOf_4 : List UInt8 := dkwX2_costOf_4 ++ dktX2_costOf_5
def dkwX2_costOf_3 : List UInt8 := [21, 5, 4, 96, 182, 0, 126, 153, 0, 31, 42, 42, 21, 5, 182, 0, 120, 4, 182, 0, 63, 42]
abbrev dktX2_costOf_3 : List UInt8 := dkwX2_costOf_3 ++ dktX2_costOf_4
def dkwX2_costOf_2 : List UInt8 := [180, 0, 9, 16, 8, 46, 104, 96, 62, 21, 4, 21, 5, 4, 96, 42, 180, 0, 114, 162, 0, 42, 42]
abbrev dktX2_costOf_2 : List UInt8 := dkwX2_costOf_2 ++ dktX2_costOf_3
def dkwX2_costOf_1 : List UInt8 := [21, 5, 182, 0, 132, 153, 0, 7, 3, 167, 0, 21, 42, 42, 21, 5, 182, 0, 120, 182, 0, 135, 42]
abbrev dktX2_costOf_1 : List UInt8 := dkwX2_costOf_1 ++ dktX2_costOf_2
def dkwX2_costOf_0 : List UInt8 := [42, 27, 182, 0, 165, 3, 62, 3, 54, 4, 3, 54, 5, 21, 5, 42, 180, 0, 114, 162, 0, 99, 29, 42]
abbrev dktX2_costOf_0 : List UInt8 := dkwX2_costOf_0 ++ dktX2_costOf_1
theorem dksX2_costOf_0 : cX2_costOf.data.toList.drop 0 = dktX2_costOf_0 := by decide +kernel
theorem dksX2_costOf_1 : cX2_costOf.data.toList.drop 24 = dktX2_costOf_1 := dk_seg dksX2_costOf_0 24 rfl rfl
theorem dksX2_costOf_2 : cX2_costOf.data.toList.drop 47 = dktX2_costOf_2 := dk_seg dksX2_costOf_1 23 rfl rfl
theorem dksX2_costOf_3 : cX2_costOf.data.toList.drop 70 = dktX2_costOf_3 := dk_seg dksX2_costOf_2 23 rfl rfl
theorem dksX2_costOf_4 : cX2_costOf.data.toList.drop 92 = dktX2_costOf_4 := dk_seg dksX2_costOf_3 22 rfl rfl
theorem dksX2_costOf_5 : cX2_costOf.data.toList.drop 115 = dktX2_costOf_5 := dk_seg dksX2_costOf_4 23 rfl rfl
theorem dksX2_costOf_6 : cX2_costOf.data.toList.drop 139 = dktX2_costOf_6 := dk_seg dksX2_costOf_5 24 rfl rfl
theorem dX2_costOf_0 : decode cX2_costOf 0 = .ok (.aload_n 0, 1) := dk_42 (dk_at dksX2_costOf_0 0 rfl rfl)
theorem dX2_costOf_1 : decode cX2_costOf 1 = .ok (.iload_n 1, 1) := dk_27 (dk_at dksX2_costOf_0 1 rfl rfl)
theorem dX2_costOf_2 : decode cX2_costOf 2 = .ok (.invokevirtual 165, 3) := dk_182 0 165 (dk_at dksX2_costOf_0 2 rfl rfl)
theorem dX2_costOf_5 : decode cX2_costOf 5 = .ok (.iconst 0, 1) := dk_3 (dk_at dksX2_costOf_0 5 rfl rfl)
theorem dX2_costOf_6 : decode cX2_costOf 6 = .ok (.istore_n 3, 1) := dk_62 (dk_at dksX2_costOf_0 6 rfl rfl)
theorem dX2_costOf_7 : decode cX2_costOf 7 = .ok (.iconst 0, 1) := dk_3 (dk_at dksX2_costOf_0 7 rfl rfl)
theorem dX2_costOf_8 : decode cX2_costOf 8 = .ok (.istore 4, 2) := dk_54 4 (dk_at dksX2_costOf_0 8 rfl rfl)
theorem dX2_costOf_10 : decode cX2_costOf 10 = .ok (.iconst 0, 1) := dk_3 (dk_at dksX2_costOf_0 10 rfl rfl)
theorem dX2_costOf_11 : decode cX2_costOf 11 = .ok (.istore 5, 2) := dk_54 5 (dk_at dksX2_costOf_0 11 rfl rfl)
theorem dX2_costOf_13 : decode cX2_costOf 13 = .ok (.iload 5, 2) := dk_21 5 (dk_at dksX2_costOf_0 13 rfl rfl)
theorem dX2_costOf_15 : decode cX2_costOf 15 = .ok (.aload_n 0, 1) := dk_42 (dk_at dksX2_costOf_0 15 rfl rfl)
theorem dX2_costOf_16 : decode cX2_costOf 16 = .ok (.getfield 114, 3) := dk_180 0 114 (dk_at dksX2_costOf_0 16 rfl rfl)
theorem dX2_costOf_19 : decode cX2_costOf 19 = .ok (.if_icmp .ge 99, 3) := dk_162 0 99 (dk_at dksX2_costOf_0 19 rfl rfl)
theorem dX2_costOf_22 : decode cX2_costOf 22 = .ok (.iload_n 3, 1) := dk_29 (dk_at dksX2_costOf_0 22 rfl rfl)
theorem dX2_costOf_23 : decode cX2_costOf 23 = .ok (.aload_n 0, 1) := dk_42 (dk_at dksX2_costOf_0 23 rfl rfl)
theorem dX2_costOf_24 : decode cX2_costOf 24 = .ok (.iload 5, 2) := dk_21 5 (dk_at dksX2_costOf_1 0 rfl rfl)
theorem dX2_costOf_26 : decode cX2_costOf 26 = .ok (.invokevirtual 132, 3) := dk_182 0 132 (dk_at dksX2_costOf_1 2 rfl rfl)
theorem dX2_costOf_29 : decode cX2_costOf 29 = .ok (.ifCond .eq 7, 3) := dk_153 0 7 (dk_at dksX2_costOf_1 5 rfl rfl)
theorem dX2_costOf_32 : decode cX2_costOf 32 = .ok (.iconst 0, 1) := dk_3 (dk_at dksX2_costOf_1 8 rfl rfl)
theorem dX2_costOf_33 : decode cX2_costOf 33 = .ok (.goto 21, 3) := dk_167 0 21 (dk_at dksX2_costOf_1 9 rfl rfl)
theorem dX2_costOf_36 : decode cX2_costOf 36 = .ok (.aload_n 0, 1) := dk_42 (dk_at dksX2_costOf_1 12 rfl rfl)
theorem dX2_costOf_37 : decode cX2_costOf 37 = .ok (.aload_n 0, 1) := dk_42 (dk_at dksX2_costOf_1 13 rfl rfl)
theorem dX2_costOf_38 : decode cX2_costOf 38 = .ok (.iload 5, 2) := dk_21 5 (dk_at dksX2_costOf_1 14 rfl rfl)
theorem dX2_costOf_40 : decode cX2_costOf 40 = .ok (.invokevirtual 120, 3) := dk_182 0 120 (dk_at dksX2_costOf_1 16 rfl rfl)
theorem dX2_costOf_43 : decode cX2_costOf 43 = .ok (.invokevirtual 135, 3) := dk_182 0 135 (dk_at dksX2_costOf_1 19 rfl rfl)
theorem dX2_costOf_46 : decode cX2_costOf 46 = .ok (.aload_n 0, 1) := dk_42 (dk_at dksX2_costOf_1 22 rfl rfl)
theorem dX2_costOf_47 : decode cX2_costOf 47 = .ok (.getfield 9, 3) := dk_180 0 9 (dk_at dksX2_costOf_2 0 rfl rfl)
theorem dX2_costOf_50 : decode cX2_costOf 50 = .ok (.bipush 8, 2) := dk_16 8 (dk_at dksX2_costOf_2 3 rfl rfl)
theorem dX2_costOf_52 : decode cX2_costOf 52 = .ok (.iaload, 1) := dk_46 (dk_at dksX2_costOf_2 5 rfl rfl)
theorem dX2_costOf_53 : decode cX2_costOf 53 = .ok (.imul, 1) := dk_104 (dk_at dksX2_costOf_2 6 rfl rfl)
theorem dX2_costOf_54 : decode cX2_costOf 54 = .ok (.iadd, 1) := dk_96 (dk_at dksX2_costOf_2 7 rfl rfl)
theorem dX2_costOf_55 : decode cX2_costOf 55 = .ok (.istore_n 3, 1) := dk_62 (dk_at dksX2_costOf_2 8 rfl rfl)
theorem dX2_costOf_56 : decode cX2_costOf 56 = .ok (.iload 4, 2) := dk_21 4 (dk_at dksX2_costOf_2 9 rfl rfl)
theorem dX2_costOf_58 : decode cX2_costOf 58 = .ok (.iload 5, 2) := dk_21 5 (dk_at dksX2_costOf_2 11 rfl rfl)
theorem dX2_costOf_60 : decode cX2_costOf 60 = .ok (.iconst 1, 1) := dk_4 (dk_at dksX2_costOf_2 13 rfl rfl)
theorem dX2_costOf_61 : decode cX2_costOf 61 = .ok (.iadd, 1) := dk_96 (dk_at dksX2_costOf_2 14 rfl rfl)
theorem dX2_costOf_62 : decode cX2_costOf 62 = .ok (.aload_n 0, 1) := dk_42 (dk_at dksX2_costOf_2 15 rfl rfl)
theorem dX2_costOf_63 : decode cX2_costOf 63 = .ok (.getfield 114, 3) := dk_180 0 114 (dk_at dksX2_costOf_2 16 rfl rfl)
theorem dX2_costOf_66 : decode cX2_costOf 66 = .ok (.if_icmp .ge 42, 3) := dk_162 0 42 (dk_at dksX2_costOf_2 19 rfl rfl)
theorem dX2_costOf_69 : decode cX2_costOf 69 = .ok (.aload_n 0, 1) := dk_42 (dk_at dksX2_costOf_2 22 rfl rfl)
theorem dX2_costOf_70 : decode cX2_costOf 70 = .ok (.iload 5, 2) := dk_21 5 (dk_at dksX2_costOf_3 0 rfl rfl)
theorem dX2_costOf_72 : decode cX2_costOf 72 = .ok (.iconst 1, 1) := dk_4 (dk_at dksX2_costOf_3 2 rfl rfl)
theorem dX2_costOf_73 : decode cX2_costOf 73 = .ok (.iadd, 1) := dk_96 (dk_at dksX2_costOf_3 3 rfl rfl)
theorem dX2_costOf_74 : decode cX2_costOf 74 = .ok (.invokevirtual 126, 3) := dk_182 0 126 (dk_at dksX2_costOf_3 4 rfl rfl)
theorem dX2_costOf_77 : decode cX2_costOf 77 = .ok (.ifCond .eq 31, 3) := dk_153 0 31 (dk_at dksX2_costOf_3 7 rfl rfl)
theorem dX2_costOf_80 : decode cX2_costOf 80 = .ok (.aload_n 0, 1) := dk_42 (dk_at dksX2_costOf_3 10 rfl rfl)
theorem dX2_costOf_81 : decode cX2_costOf 81 = .ok (.aload_n 0, 1) := dk_42 (dk_at dksX2_costOf_3 11 rfl rfl)
theorem dX2_costOf_82 : decode cX2_costOf 82 = .ok (.iload 5, 2) := dk_21 5 (dk_at dksX2_costOf_3 12 rfl rfl)
theorem dX2_costOf_84 : decode cX2_costOf 84 = .ok (.invokevirtual 120, 3) := dk_182 0 120 (dk_at dksX2_costOf_3 14 rfl rfl)
theorem dX2_costOf_87 : decode cX2_costOf 87 = .ok (.iconst 1, 1) := dk_4 (dk_at dksX2_costOf_3 17 rfl rfl)
theorem dX2_costOf_88 : decode cX2_costOf 88 = .ok (.invokevirtual 63, 3) := dk_182 0 63 (dk_at dksX2_costOf_3 18 rfl rfl)
theorem dX2_costOf_91 : decode cX2_costOf 91 = .ok (.aload_n 0, 1) := dk_42 (dk_at dksX2_costOf_3 21 rfl rfl)
theorem dX2_costOf_92 : decode cX2_costOf 92 = .ok (.getfield 117, 3) := dk_180 0 117 (dk_at dksX2_costOf_4 0 rfl rfl)
theorem dX2_costOf_95 : decode cX2_costOf 95 = .ok (.if_icmp .eq 13, 3) := dk_159 0 13 (dk_at dksX2_costOf_4 3 rfl rfl)
theorem dX2_costOf_98 : decode cX2_costOf 98 = .ok (.aload_n 0, 1) := dk_42 (dk_at dksX2_costOf_4 6 rfl rfl)
theorem dX2_costOf_99 : decode cX2_costOf 99 = .ok (.getfield 9, 3) := dk_180 0 9 (dk_at dksX2_costOf_4 7 rfl rfl)
theorem dX2_costOf_102 : decode cX2_costOf 102 = .ok (.bipush 9, 2) := dk_16 9 (dk_at dksX2_costOf_4 10 rfl rfl)
theorem dX2_costOf_104 : decode cX2_costOf 104 = .ok (.iaload, 1) := dk_46 (dk_at dksX2_costOf_4 12 rfl rfl)
theorem dX2_costOf_105 : decode cX2_costOf 105 = .ok (.goto 4, 3) := dk_167 0 4 (dk_at dksX2_costOf_4 13 rfl rfl)
theorem dX2_costOf_108 : decode cX2_costOf 108 = .ok (.iconst 0, 1) := dk_3 (dk_at dksX2_costOf_4 16 rfl rfl)
theorem dX2_costOf_109 : decode cX2_costOf 109 = .ok (.iadd, 1) := dk_96 (dk_at dksX2_costOf_4 17 rfl rfl)
theorem dX2_costOf_110 : decode cX2_costOf 110 = .ok (.istore 4, 2) := dk_54 4 (dk_at dksX2_costOf_4 18 rfl rfl)
theorem dX2_costOf_112 : decode cX2_costOf 112 = .ok (.iinc 5 1, 3) := dk_132 5 1 (dk_at dksX2_costOf_4 20 rfl rfl)
theorem dX2_costOf_115 : decode cX2_costOf 115 = .ok (.goto (-102), 3) := dk_167 255 154 (dk_at dksX2_costOf_5 0 rfl rfl)
theorem dX2_costOf_118 : decode cX2_costOf 118 = .ok (.iload_n 2, 1) := dk_28 (dk_at dksX2_costOf_5 3 rfl rfl)
theorem dX2_costOf_119 : decode cX2_costOf 119 = .ok (.ifCond .ne 7, 3) := dk_154 0 7 (dk_at dksX2_costOf_5 4 rfl rfl)
theorem dX2_costOf_122 : decode cX2_costOf 122 = .ok (.iload_n 3, 1) := dk_29 (dk_at dksX2_costOf_5 7 rfl rfl)
theorem dX2_costOf_123 : decode cX2_costOf 123 = .ok (.goto 17, 3) := dk_167 0 17 (dk_at dksX2_costOf_5 8 rfl rfl)
theorem dX2_costOf_126 : decode cX2_costOf 126 = .ok (.iload_n 2, 1) := dk_28 (dk_at dksX2_costOf_5 11 rfl rfl)
theorem dX2_costOf_127 : decode cX2_costOf 127 = .ok (.iconst 1, 1) := dk_4 (dk_at dksX2_costOf_5 12 rfl rfl)
theorem dX2_costOf_128 : decode cX2_costOf 128 = .ok (.if_icmp .ne 8, 3) := dk_160 0 8 (dk_at dksX2_costOf_5 13 rfl rfl)
theorem dX2_costOf_131 : decode cX2_costOf 131 = .ok (.iload 4, 2) := dk_21 4 (dk_at dksX2_costOf_5 16 rfl rfl)
theorem dX2_costOf_133 : decode cX2_costOf 133 = .ok (.goto 7, 3) := dk_167 0 7 (dk_at dksX2_costOf_5 18 rfl rfl)
theorem dX2_costOf_136 : decode cX2_costOf 136 = .ok (.iload_n 3, 1) := dk_29 (dk_at dksX2_costOf_5 21 rfl rfl)
theorem dX2_costOf_137 : decode cX2_costOf 137 = .ok (.iload 4, 2) := dk_21 4 (dk_at dksX2_costOf_5 22 rfl rfl)
theorem dX2_costOf_139 : decode cX2_costOf 139 = .ok (.iadd, 1) := dk_96 (dk_at dksX2_costOf_6 0 rfl rfl)
theorem dX2_costOf_140 : decode cX2_costOf 140 = .ok (.ireturn, 1) := dk_172 (dk_at dksX2_costOf_6 1 rfl rfl)
abbrev cX2_openCount : ByteArray := prog_12_method_62_code
def yX2_openCount : MethodName := ⟨RX2, "openCount", "()I"⟩
def dkwX2_openCount_0 : List UInt8 := [42, 182, 0, 209, 42, 180, 0, 203, 172]
abbrev dktX2_openCount_0 : List UInt8 := dkwX2_openCount_0 ++ []
theorem dksX2_openCount_0 : cX2_openCount.data.toList.drop 0 = dktX2_openCount_0 := by decide +kernel
theorem dX2_openCount_0 : decode cX2_openCount 0 = .ok (.aload_n 0, 1) := dk_42 (dk_at dksX2_openCount_0 0 rfl rfl)
theorem dX2_openCount_1 : decode cX2_openCount 1 = .ok (.invokevirtual 209, 3) := dk_182 0 209 (dk_at dksX2_openCount_0 1 rfl rfl)
theorem dX2_openCount_4 : decode cX2_openCount 4 = .ok (.aload_n 0, 1) := dk_42 (dk_at dksX2_openCount_0 4 rfl rfl)
theorem dX2_openCount_5 : decode cX2_openCount 5 = .ok (.getfield 203, 3) := dk_180 0 203 (dk_at dksX2_openCount_0 5 rfl rfl)
theorem dX2_openCount_8 : decode cX2_openCount 8 = .ok (.ireturn, 1) := dk_172 (dk_at dksX2_openCount_0 8 rfl rfl)
abbrev cX2_findOpen : ByteArray := prog_12_method_61_code
def yX2_findOpen : MethodName := ⟨RX2, "findOpen", "()V"⟩
def dkwX2_findOpen_4 : List UInt8 := [181, 0, 203, 132, 1, 1, 167, 255, 167, 177]
abbrev dktX2_findOpen_4 : List UInt8 := dkwX2_findOpen_4 ++ []
def dkwX2_findOpen_3 : List UInt8 := [46, 79, 132, 2, 255, 167, 255, 213, 42, 180, 0, 25, 28, 27, 79, 42, 89, 180, 0, 203, 4, 96]
abbrev dktX2_findOpen_3 : List UInt8 := dkwX2_findOpen_3 ++ dktX2_findOpen_4
def dkwX2_findOpen_2 : List UInt8 := [182, 0, 63, 42, 27, 5, 182, 0, 63, 164, 0, 23, 42, 180, 0, 25, 28, 42, 180, 0, 25, 28, 4, 100]
abbrev dktX2_findOpen_2 : List UInt8 := dkwX2_findOpen_2 ++ dktX2_findOpen_3
def dkwX2_findOpen_1 : List UInt8 := [153, 0, 71, 42, 180, 0, 203, 61, 28, 158, 0, 45, 42, 42, 180, 0, 25, 28, 4, 100, 46, 5]
abbrev dktX2_findOpen_1 : List UInt8 := dkwX2_findOpen_1 ++ dktX2_findOpen_2
def dkwX2_findOpen_0 : List UInt8 := [42, 3, 181, 0, 203, 3, 60, 27, 42, 180, 0, 9, 3, 46, 162, 0, 85, 42, 27, 182, 0, 206]
abbrev dktX2_findOpen_0 : List UInt8 := dkwX2_findOpen_0 ++ dktX2_findOpen_1
theorem dksX2_findOpen_0 : cX2_findOpen.data.toList.drop 0 = dktX2_findOpen_0 := by decide +kernel
theorem dksX2_findOpen_1 : cX2_findOpen.data.toList.drop 22 = dktX2_findOpen_1 := dk_seg dksX2_findOpen_0 22 rfl rfl
theorem dksX2_findOpen_2 : cX2_findOpen.data.toList.drop 44 = dktX2_findOpen_2 := dk_seg dksX2_findOpen_1 22 rfl rfl
theorem dksX2_findOpen_3 : cX2_findOpen.data.toList.drop 68 = dktX2_findOpen_3 := dk_seg dksX2_findOpen_2 24 rfl rfl
theorem dksX2_findOpen_4 : cX2_findOpen.data.toList.drop 90 = dktX2_findOpen_4 := dk_seg dksX2_findOpen_3 22 rfl rfl
theorem dX2_findOpen_0 : decode cX2_findOpen 0 = .ok (.aload_n 0, 1) := dk_42 (dk_at dksX2_findOpen_0 0 rfl rfl)
theorem dX2_findOpen_1 : decode cX2_findOpen 1 = .ok (.iconst 0, 1) := dk_3 (dk_at dksX2_findOpen_0 1 rfl rfl)
theorem dX2_findOpen_2 : decode cX2_findOpen 2 = .ok (.putfield 203, 3) := dk_181 0 203 (dk_at dksX2_findOpen_0 2 rfl rfl)
theorem dX2_findOpen_5 : decode cX2_findOpen 5 = .ok (.iconst 0, 1) := dk_3 (dk_at dksX2_findOpen_0 5 rfl rfl)
theorem dX2_findOpen_6 : decode cX2_findOpen 6 = .ok (.istore_n 1, 1) := dk_60 (dk_at dksX2_findOpen_0 6 rfl rfl)
theorem dX2_findOpen_7 : decode cX2_findOpen 7 = .ok (.iload_n 1, 1) := dk_27 (dk_at dksX2_findOpen_0 7 rfl rfl)
theorem dX2_findOpen_8 : decode cX2_findOpen 8 = .ok (.aload_n 0, 1) := dk_42 (dk_at dksX2_findOpen_0 8 rfl rfl)
theorem dX2_findOpen_9 : decode cX2_findOpen 9 = .ok (.getfield 9, 3) := dk_180 0 9 (dk_at dksX2_findOpen_0 9 rfl rfl)
theorem dX2_findOpen_12 : decode cX2_findOpen 12 = .ok (.iconst 0, 1) := dk_3 (dk_at dksX2_findOpen_0 12 rfl rfl)
theorem dX2_findOpen_13 : decode cX2_findOpen 13 = .ok (.iaload, 1) := dk_46 (dk_at dksX2_findOpen_0 13 rfl rfl)
theorem dX2_findOpen_14 : decode cX2_findOpen 14 = .ok (.if_icmp .ge 85, 3) := dk_162 0 85 (dk_at dksX2_findOpen_0 14 rfl rfl)
theorem dX2_findOpen_17 : decode cX2_findOpen 17 = .ok (.aload_n 0, 1) := dk_42 (dk_at dksX2_findOpen_0 17 rfl rfl)
theorem dX2_findOpen_18 : decode cX2_findOpen 18 = .ok (.iload_n 1, 1) := dk_27 (dk_at dksX2_findOpen_0 18 rfl rfl)
theorem dX2_findOpen_19 : decode cX2_findOpen 19 = .ok (.invokevirtual 206, 3) := dk_182 0 206 (dk_at dksX2_findOpen_0 19 rfl rfl)
theorem dX2_findOpen_22 : decode cX2_findOpen 22 = .ok (.ifCond .eq 71, 3) := dk_153 0 71 (dk_at dksX2_findOpen_1 0 rfl rfl)
theorem dX2_findOpen_25 : decode cX2_findOpen 25 = .ok (.aload_n 0, 1) := dk_42 (dk_at dksX2_findOpen_1 3 rfl rfl)
theorem dX2_findOpen_26 : decode cX2_findOpen 26 = .ok (.getfield 203, 3) := dk_180 0 203 (dk_at dksX2_findOpen_1 4 rfl rfl)
theorem dX2_findOpen_29 : decode cX2_findOpen 29 = .ok (.istore_n 2, 1) := dk_61 (dk_at dksX2_findOpen_1 7 rfl rfl)
theorem dX2_findOpen_30 : decode cX2_findOpen 30 = .ok (.iload_n 2, 1) := dk_28 (dk_at dksX2_findOpen_1 8 rfl rfl)
theorem dX2_findOpen_31 : decode cX2_findOpen 31 = .ok (.ifCond .le 45, 3) := dk_158 0 45 (dk_at dksX2_findOpen_1 9 rfl rfl)
theorem dX2_findOpen_34 : decode cX2_findOpen 34 = .ok (.aload_n 0, 1) := dk_42 (dk_at dksX2_findOpen_1 12 rfl rfl)
theorem dX2_findOpen_35 : decode cX2_findOpen 35 = .ok (.aload_n 0, 1) := dk_42 (dk_at dksX2_findOpen_1 13 rfl rfl)
theorem dX2_findOpen_36 : decode cX2_findOpen 36 = .ok (.getfield 25, 3) := dk_180 0 25 (dk_at dksX2_findOpen_1 14 rfl rfl)
theorem dX2_findOpen_39 : decode cX2_findOpen 39 = .ok (.iload_n 2, 1) := dk_28 (dk_at dksX2_findOpen_1 17 rfl rfl)
theorem dX2_findOpen_40 : decode cX2_findOpen 40 = .ok (.iconst 1, 1) := dk_4 (dk_at dksX2_findOpen_1 18 rfl rfl)
theorem dX2_findOpen_41 : decode cX2_findOpen 41 = .ok (.isub, 1) := dk_100 (dk_at dksX2_findOpen_1 19 rfl rfl)
theorem dX2_findOpen_42 : decode cX2_findOpen 42 = .ok (.iaload, 1) := dk_46 (dk_at dksX2_findOpen_1 20 rfl rfl)
theorem dX2_findOpen_43 : decode cX2_findOpen 43 = .ok (.iconst 2, 1) := dk_5 (dk_at dksX2_findOpen_1 21 rfl rfl)
theorem dX2_findOpen_44 : decode cX2_findOpen 44 = .ok (.invokevirtual 63, 3) := dk_182 0 63 (dk_at dksX2_findOpen_2 0 rfl rfl)
theorem dX2_findOpen_47 : decode cX2_findOpen 47 = .ok (.aload_n 0, 1) := dk_42 (dk_at dksX2_findOpen_2 3 rfl rfl)
theorem dX2_findOpen_48 : decode cX2_findOpen 48 = .ok (.iload_n 1, 1) := dk_27 (dk_at dksX2_findOpen_2 4 rfl rfl)
theorem dX2_findOpen_49 : decode cX2_findOpen 49 = .ok (.iconst 2, 1) := dk_5 (dk_at dksX2_findOpen_2 5 rfl rfl)
theorem dX2_findOpen_50 : decode cX2_findOpen 50 = .ok (.invokevirtual 63, 3) := dk_182 0 63 (dk_at dksX2_findOpen_2 6 rfl rfl)
theorem dX2_findOpen_53 : decode cX2_findOpen 53 = .ok (.if_icmp .le 23, 3) := dk_164 0 23 (dk_at dksX2_findOpen_2 9 rfl rfl)
theorem dX2_findOpen_56 : decode cX2_findOpen 56 = .ok (.aload_n 0, 1) := dk_42 (dk_at dksX2_findOpen_2 12 rfl rfl)
theorem dX2_findOpen_57 : decode cX2_findOpen 57 = .ok (.getfield 25, 3) := dk_180 0 25 (dk_at dksX2_findOpen_2 13 rfl rfl)
theorem dX2_findOpen_60 : decode cX2_findOpen 60 = .ok (.iload_n 2, 1) := dk_28 (dk_at dksX2_findOpen_2 16 rfl rfl)
theorem dX2_findOpen_61 : decode cX2_findOpen 61 = .ok (.aload_n 0, 1) := dk_42 (dk_at dksX2_findOpen_2 17 rfl rfl)
theorem dX2_findOpen_62 : decode cX2_findOpen 62 = .ok (.getfield 25, 3) := dk_180 0 25 (dk_at dksX2_findOpen_2 18 rfl rfl)
theorem dX2_findOpen_65 : decode cX2_findOpen 65 = .ok (.iload_n 2, 1) := dk_28 (dk_at dksX2_findOpen_2 21 rfl rfl)
theorem dX2_findOpen_66 : decode cX2_findOpen 66 = .ok (.iconst 1, 1) := dk_4 (dk_at dksX2_findOpen_2 22 rfl rfl)
theorem dX2_findOpen_67 : decode cX2_findOpen 67 = .ok (.isub, 1) := dk_100 (dk_at dksX2_findOpen_2 23 rfl rfl)
theorem dX2_findOpen_68 : decode cX2_findOpen 68 = .ok (.iaload, 1) := dk_46 (dk_at dksX2_findOpen_3 0 rfl rfl)
theorem dX2_findOpen_69 : decode cX2_findOpen 69 = .ok (.iastore, 1) := dk_79 (dk_at dksX2_findOpen_3 1 rfl rfl)
theorem dX2_findOpen_70 : decode cX2_findOpen 70 = .ok (.iinc 2 (-1), 3) := dk_132 2 255 (dk_at dksX2_findOpen_3 2 rfl rfl)
theorem dX2_findOpen_73 : decode cX2_findOpen 73 = .ok (.goto (-43), 3) := dk_167 255 213 (dk_at dksX2_findOpen_3 5 rfl rfl)
theorem dX2_findOpen_76 : decode cX2_findOpen 76 = .ok (.aload_n 0, 1) := dk_42 (dk_at dksX2_findOpen_3 8 rfl rfl)
theorem dX2_findOpen_77 : decode cX2_findOpen 77 = .ok (.getfield 25, 3) := dk_180 0 25 (dk_at dksX2_findOpen_3 9 rfl rfl)
theorem dX2_findOpen_80 : decode cX2_findOpen 80 = .ok (.iload_n 2, 1) := dk_28 (dk_at dksX2_findOpen_3 12 rfl rfl)
theorem dX2_findOpen_81 : decode cX2_findOpen 81 = .ok (.iload_n 1, 1) := dk_27 (dk_at dksX2_findOpen_3 13 rfl rfl)
theorem dX2_findOpen_82 : decode cX2_findOpen 82 = .ok (.iastore, 1) := dk_79 (dk_at dksX2_findOpen_3 14 rfl rfl)
theorem dX2_findOpen_83 : decode cX2_findOpen 83 = .ok (.aload_n 0, 1) := dk_42 (dk_at dksX2_findOpen_3 15 rfl rfl)
theorem dX2_findOpen_84 : decode cX2_findOpen 84 = .ok (.dup, 1) := dk_89 (dk_at dksX2_findOpen_3 16 rfl rfl)
theorem dX2_findOpen_85 : decode cX2_findOpen 85 = .ok (.getfield 203, 3) := dk_180 0 203 (dk_at dksX2_findOpen_3 17 rfl rfl)
theorem dX2_findOpen_88 : decode cX2_findOpen 88 = .ok (.iconst 1, 1) := dk_4 (dk_at dksX2_findOpen_3 20 rfl rfl)
theorem dX2_findOpen_89 : decode cX2_findOpen 89 = .ok (.iadd, 1) := dk_96 (dk_at dksX2_findOpen_3 21 rfl rfl)
theorem dX2_findOpen_90 : decode cX2_findOpen 90 = .ok (.putfield 203, 3) := dk_181 0 203 (dk_at dksX2_findOpen_4 0 rfl rfl)
theorem dX2_findOpen_93 : decode cX2_findOpen 93 = .ok (.iinc 1 1, 3) := dk_132 1 1 (dk_at dksX2_findOpen_4 3 rfl rfl)
theorem dX2_findOpen_96 : decode cX2_findOpen 96 = .ok (.goto (-89), 3) := dk_167 255 167 (dk_at dksX2_findOpen_4 6 rfl rfl)
theorem dX2_findOpen_99 : decode cX2_findOpen 99 = .ok (.return_, 1) := dk_177 (dk_at dksX2_findOpen_4 9 rfl rfl)
abbrev cX2_isOpen : ByteArray := prog_12_method_60_code
def yX2_isOpen : MethodName := ⟨RX2, "isOpen", "(I)Z"⟩
def dkwX2_isOpen_0 : List UInt8 := [42, 27, 7, 182, 0, 63, 154, 0, 15, 42, 27, 182, 0, 104, 156, 0, 7, 4, 167, 0, 4, 3, 172]
abbrev dktX2_isOpen_0 : List UInt8 := dkwX2_isOpen_0 ++ []
theorem dksX2_isOpen_0 : cX2_isOpen.data.toList.drop 0 = dktX2_isOpen_0 := by decide +kernel
theorem dX2_isOpen_0 : decode cX2_isOpen 0 = .ok (.aload_n 0, 1) := dk_42 (dk_at dksX2_isOpen_0 0 rfl rfl)
theorem dX2_isOpen_1 : decode cX2_isOpen 1 = .ok (.iload_n 1, 1) := dk_27 (dk_at dksX2_isOpen_0 1 rfl rfl)
theorem dX2_isOpen_2 : decode cX2_isOpen 2 = .ok (.iconst 4, 1) := dk_7 (dk_at dksX2_isOpen_0 2 rfl rfl)
theorem dX2_isOpen_3 : decode cX2_isOpen 3 = .ok (.invokevirtual 63, 3) := dk_182 0 63 (dk_at dksX2_isOpen_0 3 rfl rfl)
theorem dX2_isOpen_6 : decode cX2_isOpen 6 = .ok (.ifCond .ne 15, 3) := dk_154 0 15 (dk_at dksX2_isOpen_0 6 rfl rfl)
theorem dX2_isOpen_9 : decode cX2_isOpen 9 = .ok (.aload_n 0, 1) := dk_42 (dk_at dksX2_isOpen_0 9 rfl rfl)
theorem dX2_isOpen_10 : decode cX2_isOpen 10 = .ok (.iload_n 1, 1) := dk_27 (dk_at dksX2_isOpen_0 10 rfl rfl)
theorem dX2_isOpen_11 : decode cX2_isOpen 11 = .ok (.invokevirtual 104, 3) := dk_182 0 104 (dk_at dksX2_isOpen_0 11 rfl rfl)
theorem dX2_isOpen_14 : decode cX2_isOpen 14 = .ok (.ifCond .ge 7, 3) := dk_156 0 7 (dk_at dksX2_isOpen_0 14 rfl rfl)
theorem dX2_isOpen_17 : decode cX2_isOpen 17 = .ok (.iconst 1, 1) := dk_4 (dk_at dksX2_isOpen_0 17 rfl rfl)
theorem dX2_isOpen_18 : decode cX2_isOpen 18 = .ok (.goto 4, 3) := dk_167 0 4 (dk_at dksX2_isOpen_0 18 rfl rfl)
theorem dX2_isOpen_21 : decode cX2_isOpen 21 = .ok (.iconst 0, 1) := dk_3 (dk_at dksX2_isOpen_0 21 rfl rfl)
theorem dX2_isOpen_22 : decode cX2_isOpen 22 = .ok (.ireturn, 1) := dk_172 (dk_at dksX2_isOpen_0 22 rfl rfl)
abbrev cX2_open : ByteArray := prog_12_method_63_code
def yX2_open : MethodName := ⟨RX2, "open", "(I)I"⟩
def dkwX2_open_1 : List UInt8 := [167, 0, 5, 16, 254, 172]
abbrev dktX2_open_1 : List UInt8 := dkwX2_open_1 ++ []
def dkwX2_open_0 : List UInt8 := [42, 182, 0, 209, 27, 3, 42, 180, 0, 203, 4, 100, 184, 0, 59, 153, 0, 12, 42, 180, 0, 25, 27, 46]
abbrev dktX2_open_0 : List UInt8 := dkwX2_open_0 ++ dktX2_open_1
theorem dksX2_open_0 : cX2_open.data.toList.drop 0 = dktX2_open_0 := by decide +kernel
theorem dksX2_open_1 : cX2_open.data.toList.drop 24 = dktX2_open_1 := dk_seg dksX2_open_0 24 rfl rfl
theorem dX2_open_0 : decode cX2_open 0 = .ok (.aload_n 0, 1) := dk_42 (dk_at dksX2_open_0 0 rfl rfl)
theorem dX2_open_1 : decode cX2_open 1 = .ok (.invokevirtual 209, 3) := dk_182 0 209 (dk_at dksX2_open_0 1 rfl rfl)
theorem dX2_open_4 : decode cX2_open 4 = .ok (.iload_n 1, 1) := dk_27 (dk_at dksX2_open_0 4 rfl rfl)
theorem dX2_open_5 : decode cX2_open 5 = .ok (.iconst 0, 1) := dk_3 (dk_at dksX2_open_0 5 rfl rfl)
theorem dX2_open_6 : decode cX2_open 6 = .ok (.aload_n 0, 1) := dk_42 (dk_at dksX2_open_0 6 rfl rfl)
theorem dX2_open_7 : decode cX2_open 7 = .ok (.getfield 203, 3) := dk_180 0 203 (dk_at dksX2_open_0 7 rfl rfl)
theorem dX2_open_10 : decode cX2_open 10 = .ok (.iconst 1, 1) := dk_4 (dk_at dksX2_open_0 10 rfl rfl)
theorem dX2_open_11 : decode cX2_open 11 = .ok (.isub, 1) := dk_100 (dk_at dksX2_open_0 11 rfl rfl)
theorem dX2_open_12 : decode cX2_open 12 = .ok (.invokestatic 59, 3) := dk_184 0 59 (dk_at dksX2_open_0 12 rfl rfl)
theorem dX2_open_15 : decode cX2_open 15 = .ok (.ifCond .eq 12, 3) := dk_153 0 12 (dk_at dksX2_open_0 15 rfl rfl)
theorem dX2_open_18 : decode cX2_open 18 = .ok (.aload_n 0, 1) := dk_42 (dk_at dksX2_open_0 18 rfl rfl)
theorem dX2_open_19 : decode cX2_open 19 = .ok (.getfield 25, 3) := dk_180 0 25 (dk_at dksX2_open_0 19 rfl rfl)
theorem dX2_open_22 : decode cX2_open 22 = .ok (.iload_n 1, 1) := dk_27 (dk_at dksX2_open_0 22 rfl rfl)
theorem dX2_open_23 : decode cX2_open 23 = .ok (.iaload, 1) := dk_46 (dk_at dksX2_open_0 23 rfl rfl)
theorem dX2_open_24 : decode cX2_open 24 = .ok (.goto 5, 3) := dk_167 0 5 (dk_at dksX2_open_1 0 rfl rfl)
theorem dX2_open_27 : decode cX2_open 27 = .ok (.bipush (-2), 2) := dk_16 254 (dk_at dksX2_open_1 3 rfl rfl)
theorem dX2_open_29 : decode cX2_open 29 = .ok (.ireturn, 1) := dk_172 (dk_at dksX2_open_1 5 rfl rfl)
abbrev cX2_delay : ByteArray := prog_12_method_65_code
def yX2_delay : MethodName := ⟨RX2, "delay", "(II)I"⟩
def dkwX2_delay_7 : List UInt8 := [167, 255, 212, 21, 4, 172]
abbrev dktX2_delay_7 : List UInt8 := dkwX2_delay_7 ++ []
def dkwX2_delay_6 : List UInt8 := [182, 0, 165, 21, 4, 42, 3, 182, 0, 154, 158, 0, 7, 4, 167, 0, 4, 3, 96, 54, 4, 132, 5, 1]
abbrev dktX2_delay_6 : List UInt8 := dkwX2_delay_6 ++ dktX2_delay_7
def dkwX2_delay_5 : List UInt8 := [54, 5, 21, 5, 42, 180, 0, 9, 4, 46, 162, 0, 39, 42, 21, 5, 182, 0, 212, 42, 21, 5]
abbrev dktX2_delay_5 : List UInt8 := dkwX2_delay_5 ++ dktX2_delay_6
def dkwX2_delay_4 : List UInt8 := [28, 96, 79, 42, 180, 0, 9, 16, 10, 8, 27, 104, 96, 6, 96, 92, 46, 28, 96, 79, 3, 54, 4, 3]
abbrev dktX2_delay_4 : List UInt8 := dkwX2_delay_4 ++ dktX2_delay_5
def dkwX2_delay_3 : List UInt8 := [153, 0, 6, 16, 252, 172, 42, 182, 0, 88, 42, 180, 0, 9, 16, 10, 8, 27, 104, 96, 5, 96, 92, 46]
abbrev dktX2_delay_3 : List UInt8 := dkwX2_delay_3 ++ dktX2_delay_4
def dkwX2_delay_2 : List UInt8 := [161, 0, 6, 16, 251, 172, 42, 27, 42, 27, 3, 182, 0, 63, 42, 27, 4, 182, 0, 63, 29, 182, 0, 84]
abbrev dktX2_delay_2 : List UInt8 := dkwX2_delay_2 ++ dktX2_delay_3
def dkwX2_delay_1 : List UInt8 := [27, 5, 182, 0, 63, 28, 96, 62, 29, 155, 0, 17, 42, 27, 6, 182, 0, 63, 28, 96, 17, 23, 112]
abbrev dktX2_delay_1 : List UInt8 := dkwX2_delay_1 ++ dktX2_delay_2
def dkwX2_delay_0 : List UInt8 := [42, 27, 182, 0, 100, 153, 0, 16, 28, 17, 253, 168, 17, 2, 88, 184, 0, 59, 154, 0, 5, 2, 172, 42]
abbrev dktX2_delay_0 : List UInt8 := dkwX2_delay_0 ++ dktX2_delay_1
theorem dksX2_delay_0 : cX2_delay.data.toList.drop 0 = dktX2_delay_0 := by decide +kernel
theorem dksX2_delay_1 : cX2_delay.data.toList.drop 24 = dktX2_delay_1 := dk_seg dksX2_delay_0 24 rfl rfl
theorem dksX2_delay_2 : cX2_delay.data.toList.drop 47 = dktX2_delay_2 := dk_seg dksX2_delay_1 23 rfl rfl
theorem dksX2_delay_3 : cX2_delay.data.toList.drop 71 = dktX2_delay_3 := dk_seg dksX2_delay_2 24 rfl rfl
theorem dksX2_delay_4 : cX2_delay.data.toList.drop 95 = dktX2_delay_4 := dk_seg dksX2_delay_3 24 rfl rfl
theorem dksX2_delay_5 : cX2_delay.data.toList.drop 119 = dktX2_delay_5 := dk_seg dksX2_delay_4 24 rfl rfl
theorem dksX2_delay_6 : cX2_delay.data.toList.drop 141 = dktX2_delay_6 := dk_seg dksX2_delay_5 22 rfl rfl
theorem dksX2_delay_7 : cX2_delay.data.toList.drop 165 = dktX2_delay_7 := dk_seg dksX2_delay_6 24 rfl rfl
theorem dX2_delay_0 : decode cX2_delay 0 = .ok (.aload_n 0, 1) := dk_42 (dk_at dksX2_delay_0 0 rfl rfl)
theorem dX2_delay_1 : decode cX2_delay 1 = .ok (.iload_n 1, 1) := dk_27 (dk_at dksX2_delay_0 1 rfl rfl)
theorem dX2_delay_2 : decode cX2_delay 2 = .ok (.invokevirtual 100, 3) := dk_182 0 100 (dk_at dksX2_delay_0 2 rfl rfl)
theorem dX2_delay_5 : decode cX2_delay 5 = .ok (.ifCond .eq 16, 3) := dk_153 0 16 (dk_at dksX2_delay_0 5 rfl rfl)
theorem dX2_delay_8 : decode cX2_delay 8 = .ok (.iload_n 2, 1) := dk_28 (dk_at dksX2_delay_0 8 rfl rfl)
theorem dX2_delay_9 : decode cX2_delay 9 = .ok (.sipush (-600), 3) := dk_17 253 168 (dk_at dksX2_delay_0 9 rfl rfl)
theorem dX2_delay_12 : decode cX2_delay 12 = .ok (.sipush 600, 3) := dk_17 2 88 (dk_at dksX2_delay_0 12 rfl rfl)
theorem dX2_delay_15 : decode cX2_delay 15 = .ok (.invokestatic 59, 3) := dk_184 0 59 (dk_at dksX2_delay_0 15 rfl rfl)
theorem dX2_delay_18 : decode cX2_delay 18 = .ok (.ifCond .ne 5, 3) := dk_154 0 5 (dk_at dksX2_delay_0 18 rfl rfl)
theorem dX2_delay_21 : decode cX2_delay 21 = .ok (.iconst (-1), 1) := dk_2 (dk_at dksX2_delay_0 21 rfl rfl)
theorem dX2_delay_22 : decode cX2_delay 22 = .ok (.ireturn, 1) := dk_172 (dk_at dksX2_delay_0 22 rfl rfl)
theorem dX2_delay_23 : decode cX2_delay 23 = .ok (.aload_n 0, 1) := dk_42 (dk_at dksX2_delay_0 23 rfl rfl)
theorem dX2_delay_24 : decode cX2_delay 24 = .ok (.iload_n 1, 1) := dk_27 (dk_at dksX2_delay_1 0 rfl rfl)
theorem dX2_delay_25 : decode cX2_delay 25 = .ok (.iconst 2, 1) := dk_5 (dk_at dksX2_delay_1 1 rfl rfl)
theorem dX2_delay_26 : decode cX2_delay 26 = .ok (.invokevirtual 63, 3) := dk_182 0 63 (dk_at dksX2_delay_1 2 rfl rfl)
theorem dX2_delay_29 : decode cX2_delay 29 = .ok (.iload_n 2, 1) := dk_28 (dk_at dksX2_delay_1 5 rfl rfl)
theorem dX2_delay_30 : decode cX2_delay 30 = .ok (.iadd, 1) := dk_96 (dk_at dksX2_delay_1 6 rfl rfl)
theorem dX2_delay_31 : decode cX2_delay 31 = .ok (.istore_n 3, 1) := dk_62 (dk_at dksX2_delay_1 7 rfl rfl)
theorem dX2_delay_32 : decode cX2_delay 32 = .ok (.iload_n 3, 1) := dk_29 (dk_at dksX2_delay_1 8 rfl rfl)
theorem dX2_delay_33 : decode cX2_delay 33 = .ok (.ifCond .lt 17, 3) := dk_155 0 17 (dk_at dksX2_delay_1 9 rfl rfl)
theorem dX2_delay_36 : decode cX2_delay 36 = .ok (.aload_n 0, 1) := dk_42 (dk_at dksX2_delay_1 12 rfl rfl)
theorem dX2_delay_37 : decode cX2_delay 37 = .ok (.iload_n 1, 1) := dk_27 (dk_at dksX2_delay_1 13 rfl rfl)
theorem dX2_delay_38 : decode cX2_delay 38 = .ok (.iconst 3, 1) := dk_6 (dk_at dksX2_delay_1 14 rfl rfl)
theorem dX2_delay_39 : decode cX2_delay 39 = .ok (.invokevirtual 63, 3) := dk_182 0 63 (dk_at dksX2_delay_1 15 rfl rfl)
theorem dX2_delay_42 : decode cX2_delay 42 = .ok (.iload_n 2, 1) := dk_28 (dk_at dksX2_delay_1 18 rfl rfl)
theorem dX2_delay_43 : decode cX2_delay 43 = .ok (.iadd, 1) := dk_96 (dk_at dksX2_delay_1 19 rfl rfl)
theorem dX2_delay_44 : decode cX2_delay 44 = .ok (.sipush 6000, 3) := dk_17 23 112 (dk_at dksX2_delay_1 20 rfl rfl)
theorem dX2_delay_47 : decode cX2_delay 47 = .ok (.if_icmp .lt 6, 3) := dk_161 0 6 (dk_at dksX2_delay_2 0 rfl rfl)
theorem dX2_delay_50 : decode cX2_delay 50 = .ok (.bipush (-5), 2) := dk_16 251 (dk_at dksX2_delay_2 3 rfl rfl)
theorem dX2_delay_52 : decode cX2_delay 52 = .ok (.ireturn, 1) := dk_172 (dk_at dksX2_delay_2 5 rfl rfl)
theorem dX2_delay_53 : decode cX2_delay 53 = .ok (.aload_n 0, 1) := dk_42 (dk_at dksX2_delay_2 6 rfl rfl)
theorem dX2_delay_54 : decode cX2_delay 54 = .ok (.iload_n 1, 1) := dk_27 (dk_at dksX2_delay_2 7 rfl rfl)
theorem dX2_delay_55 : decode cX2_delay 55 = .ok (.aload_n 0, 1) := dk_42 (dk_at dksX2_delay_2 8 rfl rfl)
theorem dX2_delay_56 : decode cX2_delay 56 = .ok (.iload_n 1, 1) := dk_27 (dk_at dksX2_delay_2 9 rfl rfl)
theorem dX2_delay_57 : decode cX2_delay 57 = .ok (.iconst 0, 1) := dk_3 (dk_at dksX2_delay_2 10 rfl rfl)
theorem dX2_delay_58 : decode cX2_delay 58 = .ok (.invokevirtual 63, 3) := dk_182 0 63 (dk_at dksX2_delay_2 11 rfl rfl)
theorem dX2_delay_61 : decode cX2_delay 61 = .ok (.aload_n 0, 1) := dk_42 (dk_at dksX2_delay_2 14 rfl rfl)
theorem dX2_delay_62 : decode cX2_delay 62 = .ok (.iload_n 1, 1) := dk_27 (dk_at dksX2_delay_2 15 rfl rfl)
theorem dX2_delay_63 : decode cX2_delay 63 = .ok (.iconst 1, 1) := dk_4 (dk_at dksX2_delay_2 16 rfl rfl)
theorem dX2_delay_64 : decode cX2_delay 64 = .ok (.invokevirtual 63, 3) := dk_182 0 63 (dk_at dksX2_delay_2 17 rfl rfl)
theorem dX2_delay_67 : decode cX2_delay 67 = .ok (.iload_n 3, 1) := dk_29 (dk_at dksX2_delay_2 20 rfl rfl)
theorem dX2_delay_68 : decode cX2_delay 68 = .ok (.invokevirtual 84, 3) := dk_182 0 84 (dk_at dksX2_delay_2 21 rfl rfl)
theorem dX2_delay_71 : decode cX2_delay 71 = .ok (.ifCond .eq 6, 3) := dk_153 0 6 (dk_at dksX2_delay_3 0 rfl rfl)
theorem dX2_delay_74 : decode cX2_delay 74 = .ok (.bipush (-4), 2) := dk_16 252 (dk_at dksX2_delay_3 3 rfl rfl)
theorem dX2_delay_76 : decode cX2_delay 76 = .ok (.ireturn, 1) := dk_172 (dk_at dksX2_delay_3 5 rfl rfl)
theorem dX2_delay_77 : decode cX2_delay 77 = .ok (.aload_n 0, 1) := dk_42 (dk_at dksX2_delay_3 6 rfl rfl)
theorem dX2_delay_78 : decode cX2_delay 78 = .ok (.invokevirtual 88, 3) := dk_182 0 88 (dk_at dksX2_delay_3 7 rfl rfl)
theorem dX2_delay_81 : decode cX2_delay 81 = .ok (.aload_n 0, 1) := dk_42 (dk_at dksX2_delay_3 10 rfl rfl)
theorem dX2_delay_82 : decode cX2_delay 82 = .ok (.getfield 9, 3) := dk_180 0 9 (dk_at dksX2_delay_3 11 rfl rfl)
theorem dX2_delay_85 : decode cX2_delay 85 = .ok (.bipush 10, 2) := dk_16 10 (dk_at dksX2_delay_3 14 rfl rfl)
theorem dX2_delay_87 : decode cX2_delay 87 = .ok (.iconst 5, 1) := dk_8 (dk_at dksX2_delay_3 16 rfl rfl)
theorem dX2_delay_88 : decode cX2_delay 88 = .ok (.iload_n 1, 1) := dk_27 (dk_at dksX2_delay_3 17 rfl rfl)
theorem dX2_delay_89 : decode cX2_delay 89 = .ok (.imul, 1) := dk_104 (dk_at dksX2_delay_3 18 rfl rfl)
theorem dX2_delay_90 : decode cX2_delay 90 = .ok (.iadd, 1) := dk_96 (dk_at dksX2_delay_3 19 rfl rfl)
theorem dX2_delay_91 : decode cX2_delay 91 = .ok (.iconst 2, 1) := dk_5 (dk_at dksX2_delay_3 20 rfl rfl)
theorem dX2_delay_92 : decode cX2_delay 92 = .ok (.iadd, 1) := dk_96 (dk_at dksX2_delay_3 21 rfl rfl)
theorem dX2_delay_93 : decode cX2_delay 93 = .ok (.dup2, 1) := dk_92 (dk_at dksX2_delay_3 22 rfl rfl)
theorem dX2_delay_94 : decode cX2_delay 94 = .ok (.iaload, 1) := dk_46 (dk_at dksX2_delay_3 23 rfl rfl)
theorem dX2_delay_95 : decode cX2_delay 95 = .ok (.iload_n 2, 1) := dk_28 (dk_at dksX2_delay_4 0 rfl rfl)
theorem dX2_delay_96 : decode cX2_delay 96 = .ok (.iadd, 1) := dk_96 (dk_at dksX2_delay_4 1 rfl rfl)
theorem dX2_delay_97 : decode cX2_delay 97 = .ok (.iastore, 1) := dk_79 (dk_at dksX2_delay_4 2 rfl rfl)
theorem dX2_delay_98 : decode cX2_delay 98 = .ok (.aload_n 0, 1) := dk_42 (dk_at dksX2_delay_4 3 rfl rfl)
theorem dX2_delay_99 : decode cX2_delay 99 = .ok (.getfield 9, 3) := dk_180 0 9 (dk_at dksX2_delay_4 4 rfl rfl)
theorem dX2_delay_102 : decode cX2_delay 102 = .ok (.bipush 10, 2) := dk_16 10 (dk_at dksX2_delay_4 7 rfl rfl)
theorem dX2_delay_104 : decode cX2_delay 104 = .ok (.iconst 5, 1) := dk_8 (dk_at dksX2_delay_4 9 rfl rfl)
theorem dX2_delay_105 : decode cX2_delay 105 = .ok (.iload_n 1, 1) := dk_27 (dk_at dksX2_delay_4 10 rfl rfl)
theorem dX2_delay_106 : decode cX2_delay 106 = .ok (.imul, 1) := dk_104 (dk_at dksX2_delay_4 11 rfl rfl)
theorem dX2_delay_107 : decode cX2_delay 107 = .ok (.iadd, 1) := dk_96 (dk_at dksX2_delay_4 12 rfl rfl)
theorem dX2_delay_108 : decode cX2_delay 108 = .ok (.iconst 3, 1) := dk_6 (dk_at dksX2_delay_4 13 rfl rfl)
theorem dX2_delay_109 : decode cX2_delay 109 = .ok (.iadd, 1) := dk_96 (dk_at dksX2_delay_4 14 rfl rfl)
theorem dX2_delay_110 : decode cX2_delay 110 = .ok (.dup2, 1) := dk_92 (dk_at dksX2_delay_4 15 rfl rfl)
theorem dX2_delay_111 : decode cX2_delay 111 = .ok (.iaload, 1) := dk_46 (dk_at dksX2_delay_4 16 rfl rfl)
theorem dX2_delay_112 : decode cX2_delay 112 = .ok (.iload_n 2, 1) := dk_28 (dk_at dksX2_delay_4 17 rfl rfl)
theorem dX2_delay_113 : decode cX2_delay 113 = .ok (.iadd, 1) := dk_96 (dk_at dksX2_delay_4 18 rfl rfl)
theorem dX2_delay_114 : decode cX2_delay 114 = .ok (.iastore, 1) := dk_79 (dk_at dksX2_delay_4 19 rfl rfl)
theorem dX2_delay_115 : decode cX2_delay 115 = .ok (.iconst 0, 1) := dk_3 (dk_at dksX2_delay_4 20 rfl rfl)
theorem dX2_delay_116 : decode cX2_delay 116 = .ok (.istore 4, 2) := dk_54 4 (dk_at dksX2_delay_4 21 rfl rfl)
theorem dX2_delay_118 : decode cX2_delay 118 = .ok (.iconst 0, 1) := dk_3 (dk_at dksX2_delay_4 23 rfl rfl)
theorem dX2_delay_119 : decode cX2_delay 119 = .ok (.istore 5, 2) := dk_54 5 (dk_at dksX2_delay_5 0 rfl rfl)
theorem dX2_delay_121 : decode cX2_delay 121 = .ok (.iload 5, 2) := dk_21 5 (dk_at dksX2_delay_5 2 rfl rfl)
theorem dX2_delay_123 : decode cX2_delay 123 = .ok (.aload_n 0, 1) := dk_42 (dk_at dksX2_delay_5 4 rfl rfl)
theorem dX2_delay_124 : decode cX2_delay 124 = .ok (.getfield 9, 3) := dk_180 0 9 (dk_at dksX2_delay_5 5 rfl rfl)
theorem dX2_delay_127 : decode cX2_delay 127 = .ok (.iconst 1, 1) := dk_4 (dk_at dksX2_delay_5 8 rfl rfl)
theorem dX2_delay_128 : decode cX2_delay 128 = .ok (.iaload, 1) := dk_46 (dk_at dksX2_delay_5 9 rfl rfl)
theorem dX2_delay_129 : decode cX2_delay 129 = .ok (.if_icmp .ge 39, 3) := dk_162 0 39 (dk_at dksX2_delay_5 10 rfl rfl)
theorem dX2_delay_132 : decode cX2_delay 132 = .ok (.aload_n 0, 1) := dk_42 (dk_at dksX2_delay_5 13 rfl rfl)
theorem dX2_delay_133 : decode cX2_delay 133 = .ok (.iload 5, 2) := dk_21 5 (dk_at dksX2_delay_5 14 rfl rfl)
theorem dX2_delay_135 : decode cX2_delay 135 = .ok (.invokevirtual 212, 3) := dk_182 0 212 (dk_at dksX2_delay_5 16 rfl rfl)
theorem dX2_delay_138 : decode cX2_delay 138 = .ok (.aload_n 0, 1) := dk_42 (dk_at dksX2_delay_5 19 rfl rfl)
theorem dX2_delay_139 : decode cX2_delay 139 = .ok (.iload 5, 2) := dk_21 5 (dk_at dksX2_delay_5 20 rfl rfl)
theorem dX2_delay_141 : decode cX2_delay 141 = .ok (.invokevirtual 165, 3) := dk_182 0 165 (dk_at dksX2_delay_6 0 rfl rfl)
theorem dX2_delay_144 : decode cX2_delay 144 = .ok (.iload 4, 2) := dk_21 4 (dk_at dksX2_delay_6 3 rfl rfl)
theorem dX2_delay_146 : decode cX2_delay 146 = .ok (.aload_n 0, 1) := dk_42 (dk_at dksX2_delay_6 5 rfl rfl)
theorem dX2_delay_147 : decode cX2_delay 147 = .ok (.iconst 0, 1) := dk_3 (dk_at dksX2_delay_6 6 rfl rfl)
theorem dX2_delay_148 : decode cX2_delay 148 = .ok (.invokevirtual 154, 3) := dk_182 0 154 (dk_at dksX2_delay_6 7 rfl rfl)
theorem dX2_delay_151 : decode cX2_delay 151 = .ok (.ifCond .le 7, 3) := dk_158 0 7 (dk_at dksX2_delay_6 10 rfl rfl)
theorem dX2_delay_154 : decode cX2_delay 154 = .ok (.iconst 1, 1) := dk_4 (dk_at dksX2_delay_6 13 rfl rfl)
theorem dX2_delay_155 : decode cX2_delay 155 = .ok (.goto 4, 3) := dk_167 0 4 (dk_at dksX2_delay_6 14 rfl rfl)
theorem dX2_delay_158 : decode cX2_delay 158 = .ok (.iconst 0, 1) := dk_3 (dk_at dksX2_delay_6 17 rfl rfl)
theorem dX2_delay_159 : decode cX2_delay 159 = .ok (.iadd, 1) := dk_96 (dk_at dksX2_delay_6 18 rfl rfl)
theorem dX2_delay_160 : decode cX2_delay 160 = .ok (.istore 4, 2) := dk_54 4 (dk_at dksX2_delay_6 19 rfl rfl)
theorem dX2_delay_162 : decode cX2_delay 162 = .ok (.iinc 5 1, 3) := dk_132 5 1 (dk_at dksX2_delay_6 21 rfl rfl)
theorem dX2_delay_165 : decode cX2_delay 165 = .ok (.goto (-44), 3) := dk_167 255 212 (dk_at dksX2_delay_7 0 rfl rfl)
theorem dX2_delay_168 : decode cX2_delay 168 = .ok (.iload 4, 2) := dk_21 4 (dk_at dksX2_delay_7 3 rfl rfl)
theorem dX2_delay_170 : decode cX2_delay 170 = .ok (.ireturn, 1) := dk_172 (dk_at dksX2_delay_7 5 rfl rfl)
abbrev cX2_reorder : ByteArray := prog_12_method_64_code
def yX2_reorder : MethodName := ⟨RX2, "reorder", "(I)V"⟩
def dkwX2_reorder_2 : List UInt8 := [182, 0, 157, 54, 5, 132, 3, 1, 167, 255, 215, 42, 27, 182, 0, 171, 177]
abbrev dktX2_reorder_2 : List UInt8 := dkwX2_reorder_2 ++ []
def dkwX2_reorder_1 : List UInt8 := [182, 0, 94, 54, 4, 42, 21, 4, 5, 108, 21, 4, 5, 112, 4, 160, 0, 7, 4, 167, 0, 4, 3]
abbrev dktX2_reorder_1 : List UInt8 := dkwX2_reorder_1 ++ dktX2_reorder_2
def dkwX2_reorder_0 : List UInt8 := [42, 27, 6, 182, 0, 94, 61, 42, 3, 181, 0, 114, 3, 62, 29, 28, 162, 0, 42, 42, 27, 7, 29, 96]
abbrev dktX2_reorder_0 : List UInt8 := dkwX2_reorder_0 ++ dktX2_reorder_1
theorem dksX2_reorder_0 : cX2_reorder.data.toList.drop 0 = dktX2_reorder_0 := by decide +kernel
theorem dksX2_reorder_1 : cX2_reorder.data.toList.drop 24 = dktX2_reorder_1 := dk_seg dksX2_reorder_0 24 rfl rfl
theorem dksX2_reorder_2 : cX2_reorder.data.toList.drop 47 = dktX2_reorder_2 := dk_seg dksX2_reorder_1 23 rfl rfl
theorem dX2_reorder_0 : decode cX2_reorder 0 = .ok (.aload_n 0, 1) := dk_42 (dk_at dksX2_reorder_0 0 rfl rfl)
theorem dX2_reorder_1 : decode cX2_reorder 1 = .ok (.iload_n 1, 1) := dk_27 (dk_at dksX2_reorder_0 1 rfl rfl)
theorem dX2_reorder_2 : decode cX2_reorder 2 = .ok (.iconst 3, 1) := dk_6 (dk_at dksX2_reorder_0 2 rfl rfl)
theorem dX2_reorder_3 : decode cX2_reorder 3 = .ok (.invokevirtual 94, 3) := dk_182 0 94 (dk_at dksX2_reorder_0 3 rfl rfl)
theorem dX2_reorder_6 : decode cX2_reorder 6 = .ok (.istore_n 2, 1) := dk_61 (dk_at dksX2_reorder_0 6 rfl rfl)
theorem dX2_reorder_7 : decode cX2_reorder 7 = .ok (.aload_n 0, 1) := dk_42 (dk_at dksX2_reorder_0 7 rfl rfl)
theorem dX2_reorder_8 : decode cX2_reorder 8 = .ok (.iconst 0, 1) := dk_3 (dk_at dksX2_reorder_0 8 rfl rfl)
theorem dX2_reorder_9 : decode cX2_reorder 9 = .ok (.putfield 114, 3) := dk_181 0 114 (dk_at dksX2_reorder_0 9 rfl rfl)
theorem dX2_reorder_12 : decode cX2_reorder 12 = .ok (.iconst 0, 1) := dk_3 (dk_at dksX2_reorder_0 12 rfl rfl)
theorem dX2_reorder_13 : decode cX2_reorder 13 = .ok (.istore_n 3, 1) := dk_62 (dk_at dksX2_reorder_0 13 rfl rfl)
theorem dX2_reorder_14 : decode cX2_reorder 14 = .ok (.iload_n 3, 1) := dk_29 (dk_at dksX2_reorder_0 14 rfl rfl)
theorem dX2_reorder_15 : decode cX2_reorder 15 = .ok (.iload_n 2, 1) := dk_28 (dk_at dksX2_reorder_0 15 rfl rfl)
theorem dX2_reorder_16 : decode cX2_reorder 16 = .ok (.if_icmp .ge 42, 3) := dk_162 0 42 (dk_at dksX2_reorder_0 16 rfl rfl)
theorem dX2_reorder_19 : decode cX2_reorder 19 = .ok (.aload_n 0, 1) := dk_42 (dk_at dksX2_reorder_0 19 rfl rfl)
theorem dX2_reorder_20 : decode cX2_reorder 20 = .ok (.iload_n 1, 1) := dk_27 (dk_at dksX2_reorder_0 20 rfl rfl)
theorem dX2_reorder_21 : decode cX2_reorder 21 = .ok (.iconst 4, 1) := dk_7 (dk_at dksX2_reorder_0 21 rfl rfl)
theorem dX2_reorder_22 : decode cX2_reorder 22 = .ok (.iload_n 3, 1) := dk_29 (dk_at dksX2_reorder_0 22 rfl rfl)
theorem dX2_reorder_23 : decode cX2_reorder 23 = .ok (.iadd, 1) := dk_96 (dk_at dksX2_reorder_0 23 rfl rfl)
theorem dX2_reorder_24 : decode cX2_reorder 24 = .ok (.invokevirtual 94, 3) := dk_182 0 94 (dk_at dksX2_reorder_1 0 rfl rfl)
theorem dX2_reorder_27 : decode cX2_reorder 27 = .ok (.istore 4, 2) := dk_54 4 (dk_at dksX2_reorder_1 3 rfl rfl)
theorem dX2_reorder_29 : decode cX2_reorder 29 = .ok (.aload_n 0, 1) := dk_42 (dk_at dksX2_reorder_1 5 rfl rfl)
theorem dX2_reorder_30 : decode cX2_reorder 30 = .ok (.iload 4, 2) := dk_21 4 (dk_at dksX2_reorder_1 6 rfl rfl)
theorem dX2_reorder_32 : decode cX2_reorder 32 = .ok (.iconst 2, 1) := dk_5 (dk_at dksX2_reorder_1 8 rfl rfl)
theorem dX2_reorder_33 : decode cX2_reorder 33 = .ok (.idiv, 1) := dk_108 (dk_at dksX2_reorder_1 9 rfl rfl)
theorem dX2_reorder_34 : decode cX2_reorder 34 = .ok (.iload 4, 2) := dk_21 4 (dk_at dksX2_reorder_1 10 rfl rfl)
theorem dX2_reorder_36 : decode cX2_reorder 36 = .ok (.iconst 2, 1) := dk_5 (dk_at dksX2_reorder_1 12 rfl rfl)
theorem dX2_reorder_37 : decode cX2_reorder 37 = .ok (.irem, 1) := dk_112 (dk_at dksX2_reorder_1 13 rfl rfl)
theorem dX2_reorder_38 : decode cX2_reorder 38 = .ok (.iconst 1, 1) := dk_4 (dk_at dksX2_reorder_1 14 rfl rfl)
theorem dX2_reorder_39 : decode cX2_reorder 39 = .ok (.if_icmp .ne 7, 3) := dk_160 0 7 (dk_at dksX2_reorder_1 15 rfl rfl)
theorem dX2_reorder_42 : decode cX2_reorder 42 = .ok (.iconst 1, 1) := dk_4 (dk_at dksX2_reorder_1 18 rfl rfl)
theorem dX2_reorder_43 : decode cX2_reorder 43 = .ok (.goto 4, 3) := dk_167 0 4 (dk_at dksX2_reorder_1 19 rfl rfl)
theorem dX2_reorder_46 : decode cX2_reorder 46 = .ok (.iconst 0, 1) := dk_3 (dk_at dksX2_reorder_1 22 rfl rfl)
theorem dX2_reorder_47 : decode cX2_reorder 47 = .ok (.invokevirtual 157, 3) := dk_182 0 157 (dk_at dksX2_reorder_2 0 rfl rfl)
theorem dX2_reorder_50 : decode cX2_reorder 50 = .ok (.istore 5, 2) := dk_54 5 (dk_at dksX2_reorder_2 3 rfl rfl)
theorem dX2_reorder_52 : decode cX2_reorder 52 = .ok (.iinc 3 1, 3) := dk_132 3 1 (dk_at dksX2_reorder_2 5 rfl rfl)
theorem dX2_reorder_55 : decode cX2_reorder 55 = .ok (.goto (-41), 3) := dk_167 255 215 (dk_at dksX2_reorder_2 8 rfl rfl)
theorem dX2_reorder_58 : decode cX2_reorder 58 = .ok (.aload_n 0, 1) := dk_42 (dk_at dksX2_reorder_2 11 rfl rfl)
theorem dX2_reorder_59 : decode cX2_reorder 59 = .ok (.iload_n 1, 1) := dk_27 (dk_at dksX2_reorder_2 12 rfl rfl)
theorem dX2_reorder_60 : decode cX2_reorder 60 = .ok (.invokevirtual 171, 3) := dk_182 0 171 (dk_at dksX2_reorder_2 13 rfl rfl)
theorem dX2_reorder_63 : decode cX2_reorder 63 = .ok (.return_, 1) := dk_177 (dk_at dksX2_reorder_2 16 rfl rfl)
abbrev cX2_cancel : ByteArray := prog_12_method_66_code
def yX2_cancel : MethodName := ⟨RX2, "cancel", "(I)I"⟩
def dkwX2_cancel_4 : List UInt8 := [172]
abbrev dktX2_cancel_4 : List UInt8 := dkwX2_cancel_4 ++ []
def dkwX2_cancel_3 : List UInt8 := [182, 0, 165, 42, 21, 4, 182, 0, 161, 42, 29, 182, 0, 171, 132, 2, 1, 132, 3, 1, 167, 255, 211, 28]
abbrev dktX2_cancel_3 : List UInt8 := dkwX2_cancel_3 ++ dktX2_cancel_4
def dkwX2_cancel_2 : List UInt8 := [180, 0, 9, 4, 46, 162, 0, 41, 42, 29, 27, 182, 0, 97, 54, 4, 21, 4, 155, 0, 22, 42, 29]
abbrev dktX2_cancel_2 : List UInt8 := dkwX2_cancel_2 ++ dktX2_cancel_3
def dkwX2_cancel_1 : List UInt8 := [182, 0, 88, 42, 180, 0, 9, 16, 10, 8, 27, 104, 96, 7, 96, 4, 79, 3, 61, 3, 62, 29, 42]
abbrev dktX2_cancel_1 : List UInt8 := dkwX2_cancel_1 ++ dktX2_cancel_2
def dkwX2_cancel_0 : List UInt8 := [42, 27, 182, 0, 100, 154, 0, 5, 2, 172, 42, 27, 7, 182, 0, 63, 4, 160, 0, 6, 16, 254, 172, 42]
abbrev dktX2_cancel_0 : List UInt8 := dkwX2_cancel_0 ++ dktX2_cancel_1
theorem dksX2_cancel_0 : cX2_cancel.data.toList.drop 0 = dktX2_cancel_0 := by decide +kernel
theorem dksX2_cancel_1 : cX2_cancel.data.toList.drop 24 = dktX2_cancel_1 := dk_seg dksX2_cancel_0 24 rfl rfl
theorem dksX2_cancel_2 : cX2_cancel.data.toList.drop 47 = dktX2_cancel_2 := dk_seg dksX2_cancel_1 23 rfl rfl
theorem dksX2_cancel_3 : cX2_cancel.data.toList.drop 70 = dktX2_cancel_3 := dk_seg dksX2_cancel_2 23 rfl rfl
theorem dksX2_cancel_4 : cX2_cancel.data.toList.drop 94 = dktX2_cancel_4 := dk_seg dksX2_cancel_3 24 rfl rfl
theorem dX2_cancel_0 : decode cX2_cancel 0 = .ok (.aload_n 0, 1) := dk_42 (dk_at dksX2_cancel_0 0 rfl rfl)
theorem dX2_cancel_1 : decode cX2_cancel 1 = .ok (.iload_n 1, 1) := dk_27 (dk_at dksX2_cancel_0 1 rfl rfl)
theorem dX2_cancel_2 : decode cX2_cancel 2 = .ok (.invokevirtual 100, 3) := dk_182 0 100 (dk_at dksX2_cancel_0 2 rfl rfl)
theorem dX2_cancel_5 : decode cX2_cancel 5 = .ok (.ifCond .ne 5, 3) := dk_154 0 5 (dk_at dksX2_cancel_0 5 rfl rfl)
theorem dX2_cancel_8 : decode cX2_cancel 8 = .ok (.iconst (-1), 1) := dk_2 (dk_at dksX2_cancel_0 8 rfl rfl)
theorem dX2_cancel_9 : decode cX2_cancel 9 = .ok (.ireturn, 1) := dk_172 (dk_at dksX2_cancel_0 9 rfl rfl)
theorem dX2_cancel_10 : decode cX2_cancel 10 = .ok (.aload_n 0, 1) := dk_42 (dk_at dksX2_cancel_0 10 rfl rfl)
theorem dX2_cancel_11 : decode cX2_cancel 11 = .ok (.iload_n 1, 1) := dk_27 (dk_at dksX2_cancel_0 11 rfl rfl)
theorem dX2_cancel_12 : decode cX2_cancel 12 = .ok (.iconst 4, 1) := dk_7 (dk_at dksX2_cancel_0 12 rfl rfl)
theorem dX2_cancel_13 : decode cX2_cancel 13 = .ok (.invokevirtual 63, 3) := dk_182 0 63 (dk_at dksX2_cancel_0 13 rfl rfl)
theorem dX2_cancel_16 : decode cX2_cancel 16 = .ok (.iconst 1, 1) := dk_4 (dk_at dksX2_cancel_0 16 rfl rfl)
theorem dX2_cancel_17 : decode cX2_cancel 17 = .ok (.if_icmp .ne 6, 3) := dk_160 0 6 (dk_at dksX2_cancel_0 17 rfl rfl)
theorem dX2_cancel_20 : decode cX2_cancel 20 = .ok (.bipush (-2), 2) := dk_16 254 (dk_at dksX2_cancel_0 20 rfl rfl)
theorem dX2_cancel_22 : decode cX2_cancel 22 = .ok (.ireturn, 1) := dk_172 (dk_at dksX2_cancel_0 22 rfl rfl)
theorem dX2_cancel_23 : decode cX2_cancel 23 = .ok (.aload_n 0, 1) := dk_42 (dk_at dksX2_cancel_0 23 rfl rfl)
theorem dX2_cancel_24 : decode cX2_cancel 24 = .ok (.invokevirtual 88, 3) := dk_182 0 88 (dk_at dksX2_cancel_1 0 rfl rfl)
theorem dX2_cancel_27 : decode cX2_cancel 27 = .ok (.aload_n 0, 1) := dk_42 (dk_at dksX2_cancel_1 3 rfl rfl)
theorem dX2_cancel_28 : decode cX2_cancel 28 = .ok (.getfield 9, 3) := dk_180 0 9 (dk_at dksX2_cancel_1 4 rfl rfl)
theorem dX2_cancel_31 : decode cX2_cancel 31 = .ok (.bipush 10, 2) := dk_16 10 (dk_at dksX2_cancel_1 7 rfl rfl)
theorem dX2_cancel_33 : decode cX2_cancel 33 = .ok (.iconst 5, 1) := dk_8 (dk_at dksX2_cancel_1 9 rfl rfl)
theorem dX2_cancel_34 : decode cX2_cancel 34 = .ok (.iload_n 1, 1) := dk_27 (dk_at dksX2_cancel_1 10 rfl rfl)
theorem dX2_cancel_35 : decode cX2_cancel 35 = .ok (.imul, 1) := dk_104 (dk_at dksX2_cancel_1 11 rfl rfl)
theorem dX2_cancel_36 : decode cX2_cancel 36 = .ok (.iadd, 1) := dk_96 (dk_at dksX2_cancel_1 12 rfl rfl)
theorem dX2_cancel_37 : decode cX2_cancel 37 = .ok (.iconst 4, 1) := dk_7 (dk_at dksX2_cancel_1 13 rfl rfl)
theorem dX2_cancel_38 : decode cX2_cancel 38 = .ok (.iadd, 1) := dk_96 (dk_at dksX2_cancel_1 14 rfl rfl)
theorem dX2_cancel_39 : decode cX2_cancel 39 = .ok (.iconst 1, 1) := dk_4 (dk_at dksX2_cancel_1 15 rfl rfl)
theorem dX2_cancel_40 : decode cX2_cancel 40 = .ok (.iastore, 1) := dk_79 (dk_at dksX2_cancel_1 16 rfl rfl)
theorem dX2_cancel_41 : decode cX2_cancel 41 = .ok (.iconst 0, 1) := dk_3 (dk_at dksX2_cancel_1 17 rfl rfl)
theorem dX2_cancel_42 : decode cX2_cancel 42 = .ok (.istore_n 2, 1) := dk_61 (dk_at dksX2_cancel_1 18 rfl rfl)
theorem dX2_cancel_43 : decode cX2_cancel 43 = .ok (.iconst 0, 1) := dk_3 (dk_at dksX2_cancel_1 19 rfl rfl)
theorem dX2_cancel_44 : decode cX2_cancel 44 = .ok (.istore_n 3, 1) := dk_62 (dk_at dksX2_cancel_1 20 rfl rfl)
theorem dX2_cancel_45 : decode cX2_cancel 45 = .ok (.iload_n 3, 1) := dk_29 (dk_at dksX2_cancel_1 21 rfl rfl)
theorem dX2_cancel_46 : decode cX2_cancel 46 = .ok (.aload_n 0, 1) := dk_42 (dk_at dksX2_cancel_1 22 rfl rfl)
theorem dX2_cancel_47 : decode cX2_cancel 47 = .ok (.getfield 9, 3) := dk_180 0 9 (dk_at dksX2_cancel_2 0 rfl rfl)
theorem dX2_cancel_50 : decode cX2_cancel 50 = .ok (.iconst 1, 1) := dk_4 (dk_at dksX2_cancel_2 3 rfl rfl)
theorem dX2_cancel_51 : decode cX2_cancel 51 = .ok (.iaload, 1) := dk_46 (dk_at dksX2_cancel_2 4 rfl rfl)
theorem dX2_cancel_52 : decode cX2_cancel 52 = .ok (.if_icmp .ge 41, 3) := dk_162 0 41 (dk_at dksX2_cancel_2 5 rfl rfl)
theorem dX2_cancel_55 : decode cX2_cancel 55 = .ok (.aload_n 0, 1) := dk_42 (dk_at dksX2_cancel_2 8 rfl rfl)
theorem dX2_cancel_56 : decode cX2_cancel 56 = .ok (.iload_n 3, 1) := dk_29 (dk_at dksX2_cancel_2 9 rfl rfl)
theorem dX2_cancel_57 : decode cX2_cancel 57 = .ok (.iload_n 1, 1) := dk_27 (dk_at dksX2_cancel_2 10 rfl rfl)
theorem dX2_cancel_58 : decode cX2_cancel 58 = .ok (.invokevirtual 97, 3) := dk_182 0 97 (dk_at dksX2_cancel_2 11 rfl rfl)
theorem dX2_cancel_61 : decode cX2_cancel 61 = .ok (.istore 4, 2) := dk_54 4 (dk_at dksX2_cancel_2 14 rfl rfl)
theorem dX2_cancel_63 : decode cX2_cancel 63 = .ok (.iload 4, 2) := dk_21 4 (dk_at dksX2_cancel_2 16 rfl rfl)
theorem dX2_cancel_65 : decode cX2_cancel 65 = .ok (.ifCond .lt 22, 3) := dk_155 0 22 (dk_at dksX2_cancel_2 18 rfl rfl)
theorem dX2_cancel_68 : decode cX2_cancel 68 = .ok (.aload_n 0, 1) := dk_42 (dk_at dksX2_cancel_2 21 rfl rfl)
theorem dX2_cancel_69 : decode cX2_cancel 69 = .ok (.iload_n 3, 1) := dk_29 (dk_at dksX2_cancel_2 22 rfl rfl)
theorem dX2_cancel_70 : decode cX2_cancel 70 = .ok (.invokevirtual 165, 3) := dk_182 0 165 (dk_at dksX2_cancel_3 0 rfl rfl)
theorem dX2_cancel_73 : decode cX2_cancel 73 = .ok (.aload_n 0, 1) := dk_42 (dk_at dksX2_cancel_3 3 rfl rfl)
theorem dX2_cancel_74 : decode cX2_cancel 74 = .ok (.iload 4, 2) := dk_21 4 (dk_at dksX2_cancel_3 4 rfl rfl)
theorem dX2_cancel_76 : decode cX2_cancel 76 = .ok (.invokevirtual 161, 3) := dk_182 0 161 (dk_at dksX2_cancel_3 6 rfl rfl)
theorem dX2_cancel_79 : decode cX2_cancel 79 = .ok (.aload_n 0, 1) := dk_42 (dk_at dksX2_cancel_3 9 rfl rfl)
theorem dX2_cancel_80 : decode cX2_cancel 80 = .ok (.iload_n 3, 1) := dk_29 (dk_at dksX2_cancel_3 10 rfl rfl)
theorem dX2_cancel_81 : decode cX2_cancel 81 = .ok (.invokevirtual 171, 3) := dk_182 0 171 (dk_at dksX2_cancel_3 11 rfl rfl)
theorem dX2_cancel_84 : decode cX2_cancel 84 = .ok (.iinc 2 1, 3) := dk_132 2 1 (dk_at dksX2_cancel_3 14 rfl rfl)
theorem dX2_cancel_87 : decode cX2_cancel 87 = .ok (.iinc 3 1, 3) := dk_132 3 1 (dk_at dksX2_cancel_3 17 rfl rfl)
theorem dX2_cancel_90 : decode cX2_cancel 90 = .ok (.goto (-45), 3) := dk_167 255 211 (dk_at dksX2_cancel_3 20 rfl rfl)
theorem dX2_cancel_93 : decode cX2_cancel 93 = .ok (.iload_n 2, 1) := dk_28 (dk_at dksX2_cancel_3 23 rfl rfl)
theorem dX2_cancel_94 : decode cX2_cancel 94 = .ok (.ireturn, 1) := dk_172 (dk_at dksX2_cancel_4 0 rfl rfl)
abbrev cX2_setReserve : ByteArray := prog_12_method_68_code
def yX2_setReserve : MethodName := ⟨RX2, "setReserve", "(III)I"⟩
def dkwX2_setReserve_3 : List UInt8 := [79, 21, 4, 172]
abbrev dktX2_setReserve_3 : List UInt8 := dkwX2_setReserve_3 ++ []
def dkwX2_setReserve_2 : List UInt8 := [3, 54, 4, 42, 180, 0, 9, 27, 4, 184, 0, 91, 28, 79, 42, 180, 0, 9, 27, 5, 184, 0, 91, 29]
abbrev dktX2_setReserve_2 : List UInt8 := dkwX2_setReserve_2 ++ dktX2_setReserve_3
def dkwX2_setReserve_1 : List UInt8 := [184, 0, 59, 154, 0, 5, 2, 172, 42, 182, 0, 88, 42, 27, 182, 0, 215, 153, 0, 7, 4, 167, 0, 4]
abbrev dktX2_setReserve_1 : List UInt8 := dkwX2_setReserve_1 ++ dktX2_setReserve_2
def dkwX2_setReserve_0 : List UInt8 := [42, 27, 182, 0, 174, 153, 0, 25, 28, 3, 17, 23, 111, 184, 0, 59, 153, 0, 14, 29, 28, 17, 23, 112]
abbrev dktX2_setReserve_0 : List UInt8 := dkwX2_setReserve_0 ++ dktX2_setReserve_1
theorem dksX2_setReserve_0 : cX2_setReserve.data.toList.drop 0 = dktX2_setReserve_0 := by decide +kernel
theorem dksX2_setReserve_1 : cX2_setReserve.data.toList.drop 24 = dktX2_setReserve_1 := dk_seg dksX2_setReserve_0 24 rfl rfl
theorem dksX2_setReserve_2 : cX2_setReserve.data.toList.drop 48 = dktX2_setReserve_2 := dk_seg dksX2_setReserve_1 24 rfl rfl
theorem dksX2_setReserve_3 : cX2_setReserve.data.toList.drop 72 = dktX2_setReserve_3 := dk_seg dksX2_setReserve_2 24 rfl rfl
theorem dX2_setReserve_0 : decode cX2_setReserve 0 = .ok (.aload_n 0, 1) := dk_42 (dk_at dksX2_setReserve_0 0 rfl rfl)
theorem dX2_setReserve_1 : decode cX2_setReserve 1 = .ok (.iload_n 1, 1) := dk_27 (dk_at dksX2_setReserve_0 1 rfl rfl)
theorem dX2_setReserve_2 : decode cX2_setReserve 2 = .ok (.invokevirtual 174, 3) := dk_182 0 174 (dk_at dksX2_setReserve_0 2 rfl rfl)
theorem dX2_setReserve_5 : decode cX2_setReserve 5 = .ok (.ifCond .eq 25, 3) := dk_153 0 25 (dk_at dksX2_setReserve_0 5 rfl rfl)
theorem dX2_setReserve_8 : decode cX2_setReserve 8 = .ok (.iload_n 2, 1) := dk_28 (dk_at dksX2_setReserve_0 8 rfl rfl)
theorem dX2_setReserve_9 : decode cX2_setReserve 9 = .ok (.iconst 0, 1) := dk_3 (dk_at dksX2_setReserve_0 9 rfl rfl)
theorem dX2_setReserve_10 : decode cX2_setReserve 10 = .ok (.sipush 5999, 3) := dk_17 23 111 (dk_at dksX2_setReserve_0 10 rfl rfl)
theorem dX2_setReserve_13 : decode cX2_setReserve 13 = .ok (.invokestatic 59, 3) := dk_184 0 59 (dk_at dksX2_setReserve_0 13 rfl rfl)
theorem dX2_setReserve_16 : decode cX2_setReserve 16 = .ok (.ifCond .eq 14, 3) := dk_153 0 14 (dk_at dksX2_setReserve_0 16 rfl rfl)
theorem dX2_setReserve_19 : decode cX2_setReserve 19 = .ok (.iload_n 3, 1) := dk_29 (dk_at dksX2_setReserve_0 19 rfl rfl)
theorem dX2_setReserve_20 : decode cX2_setReserve 20 = .ok (.iload_n 2, 1) := dk_28 (dk_at dksX2_setReserve_0 20 rfl rfl)
theorem dX2_setReserve_21 : decode cX2_setReserve 21 = .ok (.sipush 6000, 3) := dk_17 23 112 (dk_at dksX2_setReserve_0 21 rfl rfl)
theorem dX2_setReserve_24 : decode cX2_setReserve 24 = .ok (.invokestatic 59, 3) := dk_184 0 59 (dk_at dksX2_setReserve_1 0 rfl rfl)
theorem dX2_setReserve_27 : decode cX2_setReserve 27 = .ok (.ifCond .ne 5, 3) := dk_154 0 5 (dk_at dksX2_setReserve_1 3 rfl rfl)
theorem dX2_setReserve_30 : decode cX2_setReserve 30 = .ok (.iconst (-1), 1) := dk_2 (dk_at dksX2_setReserve_1 6 rfl rfl)
theorem dX2_setReserve_31 : decode cX2_setReserve 31 = .ok (.ireturn, 1) := dk_172 (dk_at dksX2_setReserve_1 7 rfl rfl)
theorem dX2_setReserve_32 : decode cX2_setReserve 32 = .ok (.aload_n 0, 1) := dk_42 (dk_at dksX2_setReserve_1 8 rfl rfl)
theorem dX2_setReserve_33 : decode cX2_setReserve 33 = .ok (.invokevirtual 88, 3) := dk_182 0 88 (dk_at dksX2_setReserve_1 9 rfl rfl)
theorem dX2_setReserve_36 : decode cX2_setReserve 36 = .ok (.aload_n 0, 1) := dk_42 (dk_at dksX2_setReserve_1 12 rfl rfl)
theorem dX2_setReserve_37 : decode cX2_setReserve 37 = .ok (.iload_n 1, 1) := dk_27 (dk_at dksX2_setReserve_1 13 rfl rfl)
theorem dX2_setReserve_38 : decode cX2_setReserve 38 = .ok (.invokevirtual 215, 3) := dk_182 0 215 (dk_at dksX2_setReserve_1 14 rfl rfl)
theorem dX2_setReserve_41 : decode cX2_setReserve 41 = .ok (.ifCond .eq 7, 3) := dk_153 0 7 (dk_at dksX2_setReserve_1 17 rfl rfl)
theorem dX2_setReserve_44 : decode cX2_setReserve 44 = .ok (.iconst 1, 1) := dk_4 (dk_at dksX2_setReserve_1 20 rfl rfl)
theorem dX2_setReserve_45 : decode cX2_setReserve 45 = .ok (.goto 4, 3) := dk_167 0 4 (dk_at dksX2_setReserve_1 21 rfl rfl)
theorem dX2_setReserve_48 : decode cX2_setReserve 48 = .ok (.iconst 0, 1) := dk_3 (dk_at dksX2_setReserve_2 0 rfl rfl)
theorem dX2_setReserve_49 : decode cX2_setReserve 49 = .ok (.istore 4, 2) := dk_54 4 (dk_at dksX2_setReserve_2 1 rfl rfl)
theorem dX2_setReserve_51 : decode cX2_setReserve 51 = .ok (.aload_n 0, 1) := dk_42 (dk_at dksX2_setReserve_2 3 rfl rfl)
theorem dX2_setReserve_52 : decode cX2_setReserve 52 = .ok (.getfield 9, 3) := dk_180 0 9 (dk_at dksX2_setReserve_2 4 rfl rfl)
theorem dX2_setReserve_55 : decode cX2_setReserve 55 = .ok (.iload_n 1, 1) := dk_27 (dk_at dksX2_setReserve_2 7 rfl rfl)
theorem dX2_setReserve_56 : decode cX2_setReserve 56 = .ok (.iconst 1, 1) := dk_4 (dk_at dksX2_setReserve_2 8 rfl rfl)
theorem dX2_setReserve_57 : decode cX2_setReserve 57 = .ok (.invokestatic 91, 3) := dk_184 0 91 (dk_at dksX2_setReserve_2 9 rfl rfl)
theorem dX2_setReserve_60 : decode cX2_setReserve 60 = .ok (.iload_n 2, 1) := dk_28 (dk_at dksX2_setReserve_2 12 rfl rfl)
theorem dX2_setReserve_61 : decode cX2_setReserve 61 = .ok (.iastore, 1) := dk_79 (dk_at dksX2_setReserve_2 13 rfl rfl)
theorem dX2_setReserve_62 : decode cX2_setReserve 62 = .ok (.aload_n 0, 1) := dk_42 (dk_at dksX2_setReserve_2 14 rfl rfl)
theorem dX2_setReserve_63 : decode cX2_setReserve 63 = .ok (.getfield 9, 3) := dk_180 0 9 (dk_at dksX2_setReserve_2 15 rfl rfl)
theorem dX2_setReserve_66 : decode cX2_setReserve 66 = .ok (.iload_n 1, 1) := dk_27 (dk_at dksX2_setReserve_2 18 rfl rfl)
theorem dX2_setReserve_67 : decode cX2_setReserve 67 = .ok (.iconst 2, 1) := dk_5 (dk_at dksX2_setReserve_2 19 rfl rfl)
theorem dX2_setReserve_68 : decode cX2_setReserve 68 = .ok (.invokestatic 91, 3) := dk_184 0 91 (dk_at dksX2_setReserve_2 20 rfl rfl)
theorem dX2_setReserve_71 : decode cX2_setReserve 71 = .ok (.iload_n 3, 1) := dk_29 (dk_at dksX2_setReserve_2 23 rfl rfl)
theorem dX2_setReserve_72 : decode cX2_setReserve 72 = .ok (.iastore, 1) := dk_79 (dk_at dksX2_setReserve_3 0 rfl rfl)
theorem dX2_setReserve_73 : decode cX2_setReserve 73 = .ok (.iload 4, 2) := dk_21 4 (dk_at dksX2_setReserve_3 1 rfl rfl)
theorem dX2_setReserve_75 : decode cX2_setReserve 75 = .ok (.ireturn, 1) := dk_172 (dk_at dksX2_setReserve_3 3 rfl rfl)
abbrev cX2_isReserve : ByteArray := prog_12_method_67_code
def yX2_isReserve : MethodName := ⟨RX2, "isReserve", "(I)Z"⟩
def dkwX2_isReserve_0 : List UInt8 := [42, 27, 4, 182, 0, 94, 42, 27, 5, 182, 0, 94, 162, 0, 7, 4, 167, 0, 4, 3, 172]
abbrev dktX2_isReserve_0 : List UInt8 := dkwX2_isReserve_0 ++ []
theorem dksX2_isReserve_0 : cX2_isReserve.data.toList.drop 0 = dktX2_isReserve_0 := by decide +kernel
theorem dX2_isReserve_0 : decode cX2_isReserve 0 = .ok (.aload_n 0, 1) := dk_42 (dk_at dksX2_isReserve_0 0 rfl rfl)
theorem dX2_isReserve_1 : decode cX2_isReserve 1 = .ok (.iload_n 1, 1) := dk_27 (dk_at dksX2_isReserve_0 1 rfl rfl)
theorem dX2_isReserve_2 : decode cX2_isReserve 2 = .ok (.iconst 1, 1) := dk_4 (dk_at dksX2_isReserve_0 2 rfl rfl)
theorem dX2_isReserve_3 : decode cX2_isReserve 3 = .ok (.invokevirtual 94, 3) := dk_182 0 94 (dk_at dksX2_isReserve_0 3 rfl rfl)
theorem dX2_isReserve_6 : decode cX2_isReserve 6 = .ok (.aload_n 0, 1) := dk_42 (dk_at dksX2_isReserve_0 6 rfl rfl)
theorem dX2_isReserve_7 : decode cX2_isReserve 7 = .ok (.iload_n 1, 1) := dk_27 (dk_at dksX2_isReserve_0 7 rfl rfl)
theorem dX2_isReserve_8 : decode cX2_isReserve 8 = .ok (.iconst 2, 1) := dk_5 (dk_at dksX2_isReserve_0 8 rfl rfl)
theorem dX2_isReserve_9 : decode cX2_isReserve 9 = .ok (.invokevirtual 94, 3) := dk_182 0 94 (dk_at dksX2_isReserve_0 9 rfl rfl)
theorem dX2_isReserve_12 : decode cX2_isReserve 12 = .ok (.if_icmp .ge 7, 3) := dk_162 0 7 (dk_at dksX2_isReserve_0 12 rfl rfl)
theorem dX2_isReserve_15 : decode cX2_isReserve 15 = .ok (.iconst 1, 1) := dk_4 (dk_at dksX2_isReserve_0 15 rfl rfl)
theorem dX2_isReserve_16 : decode cX2_isReserve 16 = .ok (.goto 4, 3) := dk_167 0 4 (dk_at dksX2_isReserve_0 16 rfl rfl)
theorem dX2_isReserve_19 : decode cX2_isReserve 19 = .ok (.iconst 0, 1) := dk_3 (dk_at dksX2_isReserve_0 19 rfl rfl)
theorem dX2_isReserve_20 : decode cX2_isReserve 20 = .ok (.ireturn, 1) := dk_172 (dk_at dksX2_isReserve_0 20 rfl rfl)
abbrev cX2_reserve : ByteArray := prog_12_method_69_code
def yX2_reserve : MethodName := ⟨RX2, "reserve", "(II)I"⟩
def dkwX2_reserve_1 : List UInt8 := [153, 0, 14, 42, 27, 4, 28, 96, 182, 0, 94, 167, 0, 5, 16, 254, 172]
abbrev dktX2_reserve_1 : List UInt8 := dkwX2_reserve_1 ++ []
def dkwX2_reserve_0 : List UInt8 := [42, 27, 182, 0, 174, 153, 0, 12, 28, 3, 4, 184, 0, 59, 154, 0, 5, 2, 172, 42, 27, 182, 0, 215]
abbrev dktX2_reserve_0 : List UInt8 := dkwX2_reserve_0 ++ dktX2_reserve_1
theorem dksX2_reserve_0 : cX2_reserve.data.toList.drop 0 = dktX2_reserve_0 := by decide +kernel
theorem dksX2_reserve_1 : cX2_reserve.data.toList.drop 24 = dktX2_reserve_1 := dk_seg dksX2_reserve_0 24 rfl rfl
theorem dX2_reserve_0 : decode cX2_reserve 0 = .ok (.aload_n 0, 1) := dk_42 (dk_at dksX2_reserve_0 0 rfl rfl)
theorem dX2_reserve_1 : decode cX2_reserve 1 = .ok (.iload_n 1, 1) := dk_27 (dk_at dksX2_reserve_0 1 rfl rfl)
theorem dX2_reserve_2 : decode cX2_reserve 2 = .ok (.invokevirtual 174, 3) := dk_182 0 174 (dk_at dksX2_reserve_0 2 rfl rfl)
theorem dX2_reserve_5 : decode cX2_reserve 5 = .ok (.ifCond .eq 12, 3) := dk_153 0 12 (dk_at dksX2_reserve_0 5 rfl rfl)
theorem dX2_reserve_8 : decode cX2_reserve 8 = .ok (.iload_n 2, 1) := dk_28 (dk_at dksX2_reserve_0 8 rfl rfl)
theorem dX2_reserve_9 : decode cX2_reserve 9 = .ok (.iconst 0, 1) := dk_3 (dk_at dksX2_reserve_0 9 rfl rfl)
theorem dX2_reserve_10 : decode cX2_reserve 10 = .ok (.iconst 1, 1) := dk_4 (dk_at dksX2_reserve_0 10 rfl rfl)
theorem dX2_reserve_11 : decode cX2_reserve 11 = .ok (.invokestatic 59, 3) := dk_184 0 59 (dk_at dksX2_reserve_0 11 rfl rfl)
theorem dX2_reserve_14 : decode cX2_reserve 14 = .ok (.ifCond .ne 5, 3) := dk_154 0 5 (dk_at dksX2_reserve_0 14 rfl rfl)
theorem dX2_reserve_17 : decode cX2_reserve 17 = .ok (.iconst (-1), 1) := dk_2 (dk_at dksX2_reserve_0 17 rfl rfl)
theorem dX2_reserve_18 : decode cX2_reserve 18 = .ok (.ireturn, 1) := dk_172 (dk_at dksX2_reserve_0 18 rfl rfl)
theorem dX2_reserve_19 : decode cX2_reserve 19 = .ok (.aload_n 0, 1) := dk_42 (dk_at dksX2_reserve_0 19 rfl rfl)
theorem dX2_reserve_20 : decode cX2_reserve 20 = .ok (.iload_n 1, 1) := dk_27 (dk_at dksX2_reserve_0 20 rfl rfl)
theorem dX2_reserve_21 : decode cX2_reserve 21 = .ok (.invokevirtual 215, 3) := dk_182 0 215 (dk_at dksX2_reserve_0 21 rfl rfl)
theorem dX2_reserve_24 : decode cX2_reserve 24 = .ok (.ifCond .eq 14, 3) := dk_153 0 14 (dk_at dksX2_reserve_1 0 rfl rfl)
theorem dX2_reserve_27 : decode cX2_reserve 27 = .ok (.aload_n 0, 1) := dk_42 (dk_at dksX2_reserve_1 3 rfl rfl)
theorem dX2_reserve_28 : decode cX2_reserve 28 = .ok (.iload_n 1, 1) := dk_27 (dk_at dksX2_reserve_1 4 rfl rfl)
theorem dX2_reserve_29 : decode cX2_reserve 29 = .ok (.iconst 1, 1) := dk_4 (dk_at dksX2_reserve_1 5 rfl rfl)
theorem dX2_reserve_30 : decode cX2_reserve 30 = .ok (.iload_n 2, 1) := dk_28 (dk_at dksX2_reserve_1 6 rfl rfl)
theorem dX2_reserve_31 : decode cX2_reserve 31 = .ok (.iadd, 1) := dk_96 (dk_at dksX2_reserve_1 7 rfl rfl)
theorem dX2_reserve_32 : decode cX2_reserve 32 = .ok (.invokevirtual 94, 3) := dk_182 0 94 (dk_at dksX2_reserve_1 8 rfl rfl)
theorem dX2_reserve_35 : decode cX2_reserve 35 = .ok (.goto 5, 3) := dk_167 0 5 (dk_at dksX2_reserve_1 11 rfl rfl)
theorem dX2_reserve_38 : decode cX2_reserve 38 = .ok (.bipush (-2), 2) := dk_16 254 (dk_at dksX2_reserve_1 14 rfl rfl)
theorem dX2_reserve_40 : decode cX2_reserve 40 = .ok (.ireturn, 1) := dk_172 (dk_at dksX2_reserve_1 16 rfl rfl)
abbrev cX2_called : ByteArray := prog_12_method_71_code
def yX2_called : MethodName := ⟨RX2, "called", "(I)I"⟩
def dkwX2_called_1 : List UInt8 := [182, 0, 218, 167, 0, 5, 16, 254, 172]
abbrev dktX2_called_1 : List UInt8 := dkwX2_called_1 ++ []
def dkwX2_called_0 : List UInt8 := [42, 27, 182, 0, 100, 154, 0, 7, 2, 167, 0, 21, 42, 27, 182, 0, 206, 153, 0, 11, 42, 27]
abbrev dktX2_called_0 : List UInt8 := dkwX2_called_0 ++ dktX2_called_1
theorem dksX2_called_0 : cX2_called.data.toList.drop 0 = dktX2_called_0 := by decide +kernel
theorem dksX2_called_1 : cX2_called.data.toList.drop 22 = dktX2_called_1 := dk_seg dksX2_called_0 22 rfl rfl
theorem dX2_called_0 : decode cX2_called 0 = .ok (.aload_n 0, 1) := dk_42 (dk_at dksX2_called_0 0 rfl rfl)
theorem dX2_called_1 : decode cX2_called 1 = .ok (.iload_n 1, 1) := dk_27 (dk_at dksX2_called_0 1 rfl rfl)
theorem dX2_called_2 : decode cX2_called 2 = .ok (.invokevirtual 100, 3) := dk_182 0 100 (dk_at dksX2_called_0 2 rfl rfl)
theorem dX2_called_5 : decode cX2_called 5 = .ok (.ifCond .ne 7, 3) := dk_154 0 7 (dk_at dksX2_called_0 5 rfl rfl)
theorem dX2_called_8 : decode cX2_called 8 = .ok (.iconst (-1), 1) := dk_2 (dk_at dksX2_called_0 8 rfl rfl)
theorem dX2_called_9 : decode cX2_called 9 = .ok (.goto 21, 3) := dk_167 0 21 (dk_at dksX2_called_0 9 rfl rfl)
theorem dX2_called_12 : decode cX2_called 12 = .ok (.aload_n 0, 1) := dk_42 (dk_at dksX2_called_0 12 rfl rfl)
theorem dX2_called_13 : decode cX2_called 13 = .ok (.iload_n 1, 1) := dk_27 (dk_at dksX2_called_0 13 rfl rfl)
theorem dX2_called_14 : decode cX2_called 14 = .ok (.invokevirtual 206, 3) := dk_182 0 206 (dk_at dksX2_called_0 14 rfl rfl)
theorem dX2_called_17 : decode cX2_called 17 = .ok (.ifCond .eq 11, 3) := dk_153 0 11 (dk_at dksX2_called_0 17 rfl rfl)
theorem dX2_called_20 : decode cX2_called 20 = .ok (.aload_n 0, 1) := dk_42 (dk_at dksX2_called_0 20 rfl rfl)
theorem dX2_called_21 : decode cX2_called 21 = .ok (.iload_n 1, 1) := dk_27 (dk_at dksX2_called_0 21 rfl rfl)
theorem dX2_called_22 : decode cX2_called 22 = .ok (.invokevirtual 218, 3) := dk_182 0 218 (dk_at dksX2_called_1 0 rfl rfl)
theorem dX2_called_25 : decode cX2_called 25 = .ok (.goto 5, 3) := dk_167 0 5 (dk_at dksX2_called_1 3 rfl rfl)
theorem dX2_called_28 : decode cX2_called 28 = .ok (.bipush (-2), 2) := dk_16 254 (dk_at dksX2_called_1 6 rfl rfl)
theorem dX2_called_30 : decode cX2_called 30 = .ok (.ireturn, 1) := dk_172 (dk_at dksX2_called_1 8 rfl rfl)
abbrev cX2_calledFor : ByteArray := prog_12_method_70_code
def yX2_calledFor : MethodName := ⟨RX2, "calledFor", "(I)I"⟩
def dkwX2_calledFor_6 : List UInt8 := [167, 255, 126, 28, 172]
abbrev dktX2_calledFor_6 : List UInt8 := dkwX2_calledFor_6 ++ []
def dkwX2_calledFor_5 : List UInt8 := [21, 4, 167, 0, 4, 28, 61, 21, 7, 153, 0, 8, 21, 6, 167, 0, 4, 29, 62, 132, 4, 1]
abbrev dktX2_calledFor_5 : List UInt8 := dkwX2_calledFor_5 ++ dktX2_calledFor_6
def dkwX2_calledFor_4 : List UInt8 := [54, 6, 28, 155, 0, 9, 21, 6, 29, 162, 0, 7, 4, 167, 0, 4, 3, 54, 7, 21, 7, 153, 0, 8]
abbrev dktX2_calledFor_4 : List UInt8 := dkwX2_calledFor_4 ++ dktX2_calledFor_5
def dkwX2_calledFor_3 : List UInt8 := [54, 5, 21, 5, 153, 0, 63, 42, 21, 4, 27, 4, 182, 0, 177, 154, 0, 52, 42, 21, 4, 182, 0, 193]
abbrev dktX2_calledFor_3 : List UInt8 := dkwX2_calledFor_3 ++ dktX2_calledFor_4
def dkwX2_calledFor_2 : List UInt8 := [161, 0, 23, 42, 27, 6, 182, 0, 63, 42, 21, 4, 5, 182, 0, 94, 163, 0, 7, 4, 167, 0, 4, 3]
abbrev dktX2_calledFor_2 : List UInt8 := dkwX2_calledFor_2 ++ dktX2_calledFor_3
def dkwX2_calledFor_1 : List UInt8 := [182, 0, 215, 153, 0, 42, 42, 27, 5, 182, 0, 63, 42, 21, 4, 4, 182, 0, 94, 16, 120, 96]
abbrev dktX2_calledFor_1 : List UInt8 := dkwX2_calledFor_1 ++ dktX2_calledFor_2
def dkwX2_calledFor_0 : List UInt8 := [16, 254, 61, 3, 62, 3, 54, 4, 21, 4, 42, 180, 0, 9, 4, 46, 162, 0, 125, 42, 21, 4]
abbrev dktX2_calledFor_0 : List UInt8 := dkwX2_calledFor_0 ++ dktX2_calledFor_1
theorem dksX2_calledFor_0 : cX2_calledFor.data.toList.drop 0 = dktX2_calledFor_0 := by decide +kernel
theorem dksX2_calledFor_1 : cX2_calledFor.data.toList.drop 22 = dktX2_calledFor_1 := dk_seg dksX2_calledFor_0 22 rfl rfl
theorem dksX2_calledFor_2 : cX2_calledFor.data.toList.drop 44 = dktX2_calledFor_2 := dk_seg dksX2_calledFor_1 22 rfl rfl
theorem dksX2_calledFor_3 : cX2_calledFor.data.toList.drop 68 = dktX2_calledFor_3 := dk_seg dksX2_calledFor_2 24 rfl rfl
theorem dksX2_calledFor_4 : cX2_calledFor.data.toList.drop 92 = dktX2_calledFor_4 := dk_seg dksX2_calledFor_3 24 rfl rfl
theorem dksX2_calledFor_5 : cX2_calledFor.data.toList.drop 116 = dktX2_calledFor_5 := dk_seg dksX2_calledFor_4 24 rfl rfl
theorem dksX2_calledFor_6 : cX2_calledFor.data.toList.drop 138 = dktX2_calledFor_6 := dk_seg dksX2_calledFor_5 22 rfl rfl
theorem dX2_calledFor_0 : decode cX2_calledFor 0 = .ok (.bipush (-2), 2) := dk_16 254 (dk_at dksX2_calledFor_0 0 rfl rfl)
theorem dX2_calledFor_2 : decode cX2_calledFor 2 = .ok (.istore_n 2, 1) := dk_61 (dk_at dksX2_calledFor_0 2 rfl rfl)
theorem dX2_calledFor_3 : decode cX2_calledFor 3 = .ok (.iconst 0, 1) := dk_3 (dk_at dksX2_calledFor_0 3 rfl rfl)
theorem dX2_calledFor_4 : decode cX2_calledFor 4 = .ok (.istore_n 3, 1) := dk_62 (dk_at dksX2_calledFor_0 4 rfl rfl)
theorem dX2_calledFor_5 : decode cX2_calledFor 5 = .ok (.iconst 0, 1) := dk_3 (dk_at dksX2_calledFor_0 5 rfl rfl)
theorem dX2_calledFor_6 : decode cX2_calledFor 6 = .ok (.istore 4, 2) := dk_54 4 (dk_at dksX2_calledFor_0 6 rfl rfl)
theorem dX2_calledFor_8 : decode cX2_calledFor 8 = .ok (.iload 4, 2) := dk_21 4 (dk_at dksX2_calledFor_0 8 rfl rfl)
theorem dX2_calledFor_10 : decode cX2_calledFor 10 = .ok (.aload_n 0, 1) := dk_42 (dk_at dksX2_calledFor_0 10 rfl rfl)
theorem dX2_calledFor_11 : decode cX2_calledFor 11 = .ok (.getfield 9, 3) := dk_180 0 9 (dk_at dksX2_calledFor_0 11 rfl rfl)
theorem dX2_calledFor_14 : decode cX2_calledFor 14 = .ok (.iconst 1, 1) := dk_4 (dk_at dksX2_calledFor_0 14 rfl rfl)
theorem dX2_calledFor_15 : decode cX2_calledFor 15 = .ok (.iaload, 1) := dk_46 (dk_at dksX2_calledFor_0 15 rfl rfl)
theorem dX2_calledFor_16 : decode cX2_calledFor 16 = .ok (.if_icmp .ge 125, 3) := dk_162 0 125 (dk_at dksX2_calledFor_0 16 rfl rfl)
theorem dX2_calledFor_19 : decode cX2_calledFor 19 = .ok (.aload_n 0, 1) := dk_42 (dk_at dksX2_calledFor_0 19 rfl rfl)
theorem dX2_calledFor_20 : decode cX2_calledFor 20 = .ok (.iload 4, 2) := dk_21 4 (dk_at dksX2_calledFor_0 20 rfl rfl)
theorem dX2_calledFor_22 : decode cX2_calledFor 22 = .ok (.invokevirtual 215, 3) := dk_182 0 215 (dk_at dksX2_calledFor_1 0 rfl rfl)
theorem dX2_calledFor_25 : decode cX2_calledFor 25 = .ok (.ifCond .eq 42, 3) := dk_153 0 42 (dk_at dksX2_calledFor_1 3 rfl rfl)
theorem dX2_calledFor_28 : decode cX2_calledFor 28 = .ok (.aload_n 0, 1) := dk_42 (dk_at dksX2_calledFor_1 6 rfl rfl)
theorem dX2_calledFor_29 : decode cX2_calledFor 29 = .ok (.iload_n 1, 1) := dk_27 (dk_at dksX2_calledFor_1 7 rfl rfl)
theorem dX2_calledFor_30 : decode cX2_calledFor 30 = .ok (.iconst 2, 1) := dk_5 (dk_at dksX2_calledFor_1 8 rfl rfl)
theorem dX2_calledFor_31 : decode cX2_calledFor 31 = .ok (.invokevirtual 63, 3) := dk_182 0 63 (dk_at dksX2_calledFor_1 9 rfl rfl)
theorem dX2_calledFor_34 : decode cX2_calledFor 34 = .ok (.aload_n 0, 1) := dk_42 (dk_at dksX2_calledFor_1 12 rfl rfl)
theorem dX2_calledFor_35 : decode cX2_calledFor 35 = .ok (.iload 4, 2) := dk_21 4 (dk_at dksX2_calledFor_1 13 rfl rfl)
theorem dX2_calledFor_37 : decode cX2_calledFor 37 = .ok (.iconst 1, 1) := dk_4 (dk_at dksX2_calledFor_1 15 rfl rfl)
theorem dX2_calledFor_38 : decode cX2_calledFor 38 = .ok (.invokevirtual 94, 3) := dk_182 0 94 (dk_at dksX2_calledFor_1 16 rfl rfl)
theorem dX2_calledFor_41 : decode cX2_calledFor 41 = .ok (.bipush 120, 2) := dk_16 120 (dk_at dksX2_calledFor_1 19 rfl rfl)
theorem dX2_calledFor_43 : decode cX2_calledFor 43 = .ok (.iadd, 1) := dk_96 (dk_at dksX2_calledFor_1 21 rfl rfl)
theorem dX2_calledFor_44 : decode cX2_calledFor 44 = .ok (.if_icmp .lt 23, 3) := dk_161 0 23 (dk_at dksX2_calledFor_2 0 rfl rfl)
theorem dX2_calledFor_47 : decode cX2_calledFor 47 = .ok (.aload_n 0, 1) := dk_42 (dk_at dksX2_calledFor_2 3 rfl rfl)
theorem dX2_calledFor_48 : decode cX2_calledFor 48 = .ok (.iload_n 1, 1) := dk_27 (dk_at dksX2_calledFor_2 4 rfl rfl)
theorem dX2_calledFor_49 : decode cX2_calledFor 49 = .ok (.iconst 3, 1) := dk_6 (dk_at dksX2_calledFor_2 5 rfl rfl)
theorem dX2_calledFor_50 : decode cX2_calledFor 50 = .ok (.invokevirtual 63, 3) := dk_182 0 63 (dk_at dksX2_calledFor_2 6 rfl rfl)
theorem dX2_calledFor_53 : decode cX2_calledFor 53 = .ok (.aload_n 0, 1) := dk_42 (dk_at dksX2_calledFor_2 9 rfl rfl)
theorem dX2_calledFor_54 : decode cX2_calledFor 54 = .ok (.iload 4, 2) := dk_21 4 (dk_at dksX2_calledFor_2 10 rfl rfl)
theorem dX2_calledFor_56 : decode cX2_calledFor 56 = .ok (.iconst 2, 1) := dk_5 (dk_at dksX2_calledFor_2 12 rfl rfl)
theorem dX2_calledFor_57 : decode cX2_calledFor 57 = .ok (.invokevirtual 94, 3) := dk_182 0 94 (dk_at dksX2_calledFor_2 13 rfl rfl)
theorem dX2_calledFor_60 : decode cX2_calledFor 60 = .ok (.if_icmp .gt 7, 3) := dk_163 0 7 (dk_at dksX2_calledFor_2 16 rfl rfl)
theorem dX2_calledFor_63 : decode cX2_calledFor 63 = .ok (.iconst 1, 1) := dk_4 (dk_at dksX2_calledFor_2 19 rfl rfl)
theorem dX2_calledFor_64 : decode cX2_calledFor 64 = .ok (.goto 4, 3) := dk_167 0 4 (dk_at dksX2_calledFor_2 20 rfl rfl)
theorem dX2_calledFor_67 : decode cX2_calledFor 67 = .ok (.iconst 0, 1) := dk_3 (dk_at dksX2_calledFor_2 23 rfl rfl)
theorem dX2_calledFor_68 : decode cX2_calledFor 68 = .ok (.istore 5, 2) := dk_54 5 (dk_at dksX2_calledFor_3 0 rfl rfl)
theorem dX2_calledFor_70 : decode cX2_calledFor 70 = .ok (.iload 5, 2) := dk_21 5 (dk_at dksX2_calledFor_3 2 rfl rfl)
theorem dX2_calledFor_72 : decode cX2_calledFor 72 = .ok (.ifCond .eq 63, 3) := dk_153 0 63 (dk_at dksX2_calledFor_3 4 rfl rfl)
theorem dX2_calledFor_75 : decode cX2_calledFor 75 = .ok (.aload_n 0, 1) := dk_42 (dk_at dksX2_calledFor_3 7 rfl rfl)
theorem dX2_calledFor_76 : decode cX2_calledFor 76 = .ok (.iload 4, 2) := dk_21 4 (dk_at dksX2_calledFor_3 8 rfl rfl)
theorem dX2_calledFor_78 : decode cX2_calledFor 78 = .ok (.iload_n 1, 1) := dk_27 (dk_at dksX2_calledFor_3 10 rfl rfl)
theorem dX2_calledFor_79 : decode cX2_calledFor 79 = .ok (.iconst 1, 1) := dk_4 (dk_at dksX2_calledFor_3 11 rfl rfl)
theorem dX2_calledFor_80 : decode cX2_calledFor 80 = .ok (.invokevirtual 177, 3) := dk_182 0 177 (dk_at dksX2_calledFor_3 12 rfl rfl)
theorem dX2_calledFor_83 : decode cX2_calledFor 83 = .ok (.ifCond .ne 52, 3) := dk_154 0 52 (dk_at dksX2_calledFor_3 15 rfl rfl)
theorem dX2_calledFor_86 : decode cX2_calledFor 86 = .ok (.aload_n 0, 1) := dk_42 (dk_at dksX2_calledFor_3 18 rfl rfl)
theorem dX2_calledFor_87 : decode cX2_calledFor 87 = .ok (.iload 4, 2) := dk_21 4 (dk_at dksX2_calledFor_3 19 rfl rfl)
theorem dX2_calledFor_89 : decode cX2_calledFor 89 = .ok (.invokevirtual 193, 3) := dk_182 0 193 (dk_at dksX2_calledFor_3 21 rfl rfl)
theorem dX2_calledFor_92 : decode cX2_calledFor 92 = .ok (.istore 6, 2) := dk_54 6 (dk_at dksX2_calledFor_4 0 rfl rfl)
theorem dX2_calledFor_94 : decode cX2_calledFor 94 = .ok (.iload_n 2, 1) := dk_28 (dk_at dksX2_calledFor_4 2 rfl rfl)
theorem dX2_calledFor_95 : decode cX2_calledFor 95 = .ok (.ifCond .lt 9, 3) := dk_155 0 9 (dk_at dksX2_calledFor_4 3 rfl rfl)
theorem dX2_calledFor_98 : decode cX2_calledFor 98 = .ok (.iload 6, 2) := dk_21 6 (dk_at dksX2_calledFor_4 6 rfl rfl)
theorem dX2_calledFor_100 : decode cX2_calledFor 100 = .ok (.iload_n 3, 1) := dk_29 (dk_at dksX2_calledFor_4 8 rfl rfl)
theorem dX2_calledFor_101 : decode cX2_calledFor 101 = .ok (.if_icmp .ge 7, 3) := dk_162 0 7 (dk_at dksX2_calledFor_4 9 rfl rfl)
theorem dX2_calledFor_104 : decode cX2_calledFor 104 = .ok (.iconst 1, 1) := dk_4 (dk_at dksX2_calledFor_4 12 rfl rfl)
theorem dX2_calledFor_105 : decode cX2_calledFor 105 = .ok (.goto 4, 3) := dk_167 0 4 (dk_at dksX2_calledFor_4 13 rfl rfl)
theorem dX2_calledFor_108 : decode cX2_calledFor 108 = .ok (.iconst 0, 1) := dk_3 (dk_at dksX2_calledFor_4 16 rfl rfl)
theorem dX2_calledFor_109 : decode cX2_calledFor 109 = .ok (.istore 7, 2) := dk_54 7 (dk_at dksX2_calledFor_4 17 rfl rfl)
theorem dX2_calledFor_111 : decode cX2_calledFor 111 = .ok (.iload 7, 2) := dk_21 7 (dk_at dksX2_calledFor_4 19 rfl rfl)
theorem dX2_calledFor_113 : decode cX2_calledFor 113 = .ok (.ifCond .eq 8, 3) := dk_153 0 8 (dk_at dksX2_calledFor_4 21 rfl rfl)
theorem dX2_calledFor_116 : decode cX2_calledFor 116 = .ok (.iload 4, 2) := dk_21 4 (dk_at dksX2_calledFor_5 0 rfl rfl)
theorem dX2_calledFor_118 : decode cX2_calledFor 118 = .ok (.goto 4, 3) := dk_167 0 4 (dk_at dksX2_calledFor_5 2 rfl rfl)
theorem dX2_calledFor_121 : decode cX2_calledFor 121 = .ok (.iload_n 2, 1) := dk_28 (dk_at dksX2_calledFor_5 5 rfl rfl)
theorem dX2_calledFor_122 : decode cX2_calledFor 122 = .ok (.istore_n 2, 1) := dk_61 (dk_at dksX2_calledFor_5 6 rfl rfl)
theorem dX2_calledFor_123 : decode cX2_calledFor 123 = .ok (.iload 7, 2) := dk_21 7 (dk_at dksX2_calledFor_5 7 rfl rfl)
theorem dX2_calledFor_125 : decode cX2_calledFor 125 = .ok (.ifCond .eq 8, 3) := dk_153 0 8 (dk_at dksX2_calledFor_5 9 rfl rfl)
theorem dX2_calledFor_128 : decode cX2_calledFor 128 = .ok (.iload 6, 2) := dk_21 6 (dk_at dksX2_calledFor_5 12 rfl rfl)
theorem dX2_calledFor_130 : decode cX2_calledFor 130 = .ok (.goto 4, 3) := dk_167 0 4 (dk_at dksX2_calledFor_5 14 rfl rfl)
theorem dX2_calledFor_133 : decode cX2_calledFor 133 = .ok (.iload_n 3, 1) := dk_29 (dk_at dksX2_calledFor_5 17 rfl rfl)
theorem dX2_calledFor_134 : decode cX2_calledFor 134 = .ok (.istore_n 3, 1) := dk_62 (dk_at dksX2_calledFor_5 18 rfl rfl)
theorem dX2_calledFor_135 : decode cX2_calledFor 135 = .ok (.iinc 4 1, 3) := dk_132 4 1 (dk_at dksX2_calledFor_5 19 rfl rfl)
theorem dX2_calledFor_138 : decode cX2_calledFor 138 = .ok (.goto (-130), 3) := dk_167 255 126 (dk_at dksX2_calledFor_6 0 rfl rfl)
theorem dX2_calledFor_141 : decode cX2_calledFor 141 = .ok (.iload_n 2, 1) := dk_28 (dk_at dksX2_calledFor_6 3 rfl rfl)
theorem dX2_calledFor_142 : decode cX2_calledFor 142 = .ok (.ireturn, 1) := dk_172 (dk_at dksX2_calledFor_6 4 rfl rfl)
abbrev cX2_pair : ByteArray := prog_12_method_75_code
def yX2_pair : MethodName := ⟨RX2, "pair", "()I"⟩
def dkwX2_pair_4 : List UInt8 := [132, 2, 1, 132, 3, 1, 167, 255, 189, 28, 172]
abbrev dktX2_pair_4 : List UInt8 := dkwX2_pair_4 ++ []
def dkwX2_pair_3 : List UInt8 := [182, 0, 180, 54, 4, 42, 42, 180, 0, 221, 42, 180, 0, 28, 29, 46, 4, 182, 0, 180, 54, 4]
abbrev dktX2_pair_3 : List UInt8 := dkwX2_pair_3 ++ dktX2_pair_4
def dkwX2_pair_2 : List UInt8 := [42, 180, 0, 221, 155, 0, 45, 42, 180, 0, 230, 155, 0, 18, 42, 42, 180, 0, 221, 42, 180, 0, 230, 3]
abbrev dktX2_pair_2 : List UInt8 := dkwX2_pair_2 ++ dktX2_pair_3
def dkwX2_pair_1 : List UInt8 := [16, 25, 184, 0, 53, 3, 61, 3, 62, 29, 27, 162, 0, 68, 42, 42, 180, 0, 28, 29, 46, 182, 0, 240]
abbrev dktX2_pair_1 : List UInt8 := dkwX2_pair_1 ++ dktX2_pair_2
def dkwX2_pair_0 : List UInt8 := [42, 182, 0, 88, 42, 182, 0, 209, 42, 180, 0, 203, 60, 42, 180, 0, 25, 3, 42, 180, 0, 28, 3]
abbrev dktX2_pair_0 : List UInt8 := dkwX2_pair_0 ++ dktX2_pair_1
theorem dksX2_pair_0 : cX2_pair.data.toList.drop 0 = dktX2_pair_0 := by decide +kernel
theorem dksX2_pair_1 : cX2_pair.data.toList.drop 23 = dktX2_pair_1 := dk_seg dksX2_pair_0 23 rfl rfl
theorem dksX2_pair_2 : cX2_pair.data.toList.drop 47 = dktX2_pair_2 := dk_seg dksX2_pair_1 24 rfl rfl
theorem dksX2_pair_3 : cX2_pair.data.toList.drop 71 = dktX2_pair_3 := dk_seg dksX2_pair_2 24 rfl rfl
theorem dksX2_pair_4 : cX2_pair.data.toList.drop 93 = dktX2_pair_4 := dk_seg dksX2_pair_3 22 rfl rfl
theorem dX2_pair_0 : decode cX2_pair 0 = .ok (.aload_n 0, 1) := dk_42 (dk_at dksX2_pair_0 0 rfl rfl)
theorem dX2_pair_1 : decode cX2_pair 1 = .ok (.invokevirtual 88, 3) := dk_182 0 88 (dk_at dksX2_pair_0 1 rfl rfl)
theorem dX2_pair_4 : decode cX2_pair 4 = .ok (.aload_n 0, 1) := dk_42 (dk_at dksX2_pair_0 4 rfl rfl)
theorem dX2_pair_5 : decode cX2_pair 5 = .ok (.invokevirtual 209, 3) := dk_182 0 209 (dk_at dksX2_pair_0 5 rfl rfl)
theorem dX2_pair_8 : decode cX2_pair 8 = .ok (.aload_n 0, 1) := dk_42 (dk_at dksX2_pair_0 8 rfl rfl)
theorem dX2_pair_9 : decode cX2_pair 9 = .ok (.getfield 203, 3) := dk_180 0 203 (dk_at dksX2_pair_0 9 rfl rfl)
theorem dX2_pair_12 : decode cX2_pair 12 = .ok (.istore_n 1, 1) := dk_60 (dk_at dksX2_pair_0 12 rfl rfl)
theorem dX2_pair_13 : decode cX2_pair 13 = .ok (.aload_n 0, 1) := dk_42 (dk_at dksX2_pair_0 13 rfl rfl)
theorem dX2_pair_14 : decode cX2_pair 14 = .ok (.getfield 25, 3) := dk_180 0 25 (dk_at dksX2_pair_0 14 rfl rfl)
theorem dX2_pair_17 : decode cX2_pair 17 = .ok (.iconst 0, 1) := dk_3 (dk_at dksX2_pair_0 17 rfl rfl)
theorem dX2_pair_18 : decode cX2_pair 18 = .ok (.aload_n 0, 1) := dk_42 (dk_at dksX2_pair_0 18 rfl rfl)
theorem dX2_pair_19 : decode cX2_pair 19 = .ok (.getfield 28, 3) := dk_180 0 28 (dk_at dksX2_pair_0 19 rfl rfl)
theorem dX2_pair_22 : decode cX2_pair 22 = .ok (.iconst 0, 1) := dk_3 (dk_at dksX2_pair_0 22 rfl rfl)
theorem dX2_pair_23 : decode cX2_pair 23 = .ok (.bipush 25, 2) := dk_16 25 (dk_at dksX2_pair_1 0 rfl rfl)
theorem dX2_pair_25 : decode cX2_pair 25 = .ok (.invokestatic 53, 3) := dk_184 0 53 (dk_at dksX2_pair_1 2 rfl rfl)
theorem dX2_pair_28 : decode cX2_pair 28 = .ok (.iconst 0, 1) := dk_3 (dk_at dksX2_pair_1 5 rfl rfl)
theorem dX2_pair_29 : decode cX2_pair 29 = .ok (.istore_n 2, 1) := dk_61 (dk_at dksX2_pair_1 6 rfl rfl)
theorem dX2_pair_30 : decode cX2_pair 30 = .ok (.iconst 0, 1) := dk_3 (dk_at dksX2_pair_1 7 rfl rfl)
theorem dX2_pair_31 : decode cX2_pair 31 = .ok (.istore_n 3, 1) := dk_62 (dk_at dksX2_pair_1 8 rfl rfl)
theorem dX2_pair_32 : decode cX2_pair 32 = .ok (.iload_n 3, 1) := dk_29 (dk_at dksX2_pair_1 9 rfl rfl)
theorem dX2_pair_33 : decode cX2_pair 33 = .ok (.iload_n 1, 1) := dk_27 (dk_at dksX2_pair_1 10 rfl rfl)
theorem dX2_pair_34 : decode cX2_pair 34 = .ok (.if_icmp .ge 68, 3) := dk_162 0 68 (dk_at dksX2_pair_1 11 rfl rfl)
theorem dX2_pair_37 : decode cX2_pair 37 = .ok (.aload_n 0, 1) := dk_42 (dk_at dksX2_pair_1 14 rfl rfl)
theorem dX2_pair_38 : decode cX2_pair 38 = .ok (.aload_n 0, 1) := dk_42 (dk_at dksX2_pair_1 15 rfl rfl)
theorem dX2_pair_39 : decode cX2_pair 39 = .ok (.getfield 28, 3) := dk_180 0 28 (dk_at dksX2_pair_1 16 rfl rfl)
theorem dX2_pair_42 : decode cX2_pair 42 = .ok (.iload_n 3, 1) := dk_29 (dk_at dksX2_pair_1 19 rfl rfl)
theorem dX2_pair_43 : decode cX2_pair 43 = .ok (.iaload, 1) := dk_46 (dk_at dksX2_pair_1 20 rfl rfl)
theorem dX2_pair_44 : decode cX2_pair 44 = .ok (.invokevirtual 240, 3) := dk_182 0 240 (dk_at dksX2_pair_1 21 rfl rfl)
theorem dX2_pair_47 : decode cX2_pair 47 = .ok (.aload_n 0, 1) := dk_42 (dk_at dksX2_pair_2 0 rfl rfl)
theorem dX2_pair_48 : decode cX2_pair 48 = .ok (.getfield 221, 3) := dk_180 0 221 (dk_at dksX2_pair_2 1 rfl rfl)
theorem dX2_pair_51 : decode cX2_pair 51 = .ok (.ifCond .lt 45, 3) := dk_155 0 45 (dk_at dksX2_pair_2 4 rfl rfl)
theorem dX2_pair_54 : decode cX2_pair 54 = .ok (.aload_n 0, 1) := dk_42 (dk_at dksX2_pair_2 7 rfl rfl)
theorem dX2_pair_55 : decode cX2_pair 55 = .ok (.getfield 230, 3) := dk_180 0 230 (dk_at dksX2_pair_2 8 rfl rfl)
theorem dX2_pair_58 : decode cX2_pair 58 = .ok (.ifCond .lt 18, 3) := dk_155 0 18 (dk_at dksX2_pair_2 11 rfl rfl)
theorem dX2_pair_61 : decode cX2_pair 61 = .ok (.aload_n 0, 1) := dk_42 (dk_at dksX2_pair_2 14 rfl rfl)
theorem dX2_pair_62 : decode cX2_pair 62 = .ok (.aload_n 0, 1) := dk_42 (dk_at dksX2_pair_2 15 rfl rfl)
theorem dX2_pair_63 : decode cX2_pair 63 = .ok (.getfield 221, 3) := dk_180 0 221 (dk_at dksX2_pair_2 16 rfl rfl)
theorem dX2_pair_66 : decode cX2_pair 66 = .ok (.aload_n 0, 1) := dk_42 (dk_at dksX2_pair_2 19 rfl rfl)
theorem dX2_pair_67 : decode cX2_pair 67 = .ok (.getfield 230, 3) := dk_180 0 230 (dk_at dksX2_pair_2 20 rfl rfl)
theorem dX2_pair_70 : decode cX2_pair 70 = .ok (.iconst 0, 1) := dk_3 (dk_at dksX2_pair_2 23 rfl rfl)
theorem dX2_pair_71 : decode cX2_pair 71 = .ok (.invokevirtual 180, 3) := dk_182 0 180 (dk_at dksX2_pair_3 0 rfl rfl)
theorem dX2_pair_74 : decode cX2_pair 74 = .ok (.istore 4, 2) := dk_54 4 (dk_at dksX2_pair_3 3 rfl rfl)
theorem dX2_pair_76 : decode cX2_pair 76 = .ok (.aload_n 0, 1) := dk_42 (dk_at dksX2_pair_3 5 rfl rfl)
theorem dX2_pair_77 : decode cX2_pair 77 = .ok (.aload_n 0, 1) := dk_42 (dk_at dksX2_pair_3 6 rfl rfl)
theorem dX2_pair_78 : decode cX2_pair 78 = .ok (.getfield 221, 3) := dk_180 0 221 (dk_at dksX2_pair_3 7 rfl rfl)
theorem dX2_pair_81 : decode cX2_pair 81 = .ok (.aload_n 0, 1) := dk_42 (dk_at dksX2_pair_3 10 rfl rfl)
theorem dX2_pair_82 : decode cX2_pair 82 = .ok (.getfield 28, 3) := dk_180 0 28 (dk_at dksX2_pair_3 11 rfl rfl)
theorem dX2_pair_85 : decode cX2_pair 85 = .ok (.iload_n 3, 1) := dk_29 (dk_at dksX2_pair_3 14 rfl rfl)
theorem dX2_pair_86 : decode cX2_pair 86 = .ok (.iaload, 1) := dk_46 (dk_at dksX2_pair_3 15 rfl rfl)
theorem dX2_pair_87 : decode cX2_pair 87 = .ok (.iconst 1, 1) := dk_4 (dk_at dksX2_pair_3 16 rfl rfl)
theorem dX2_pair_88 : decode cX2_pair 88 = .ok (.invokevirtual 180, 3) := dk_182 0 180 (dk_at dksX2_pair_3 17 rfl rfl)
theorem dX2_pair_91 : decode cX2_pair 91 = .ok (.istore 4, 2) := dk_54 4 (dk_at dksX2_pair_3 20 rfl rfl)
theorem dX2_pair_93 : decode cX2_pair 93 = .ok (.iinc 2 1, 3) := dk_132 2 1 (dk_at dksX2_pair_4 0 rfl rfl)
theorem dX2_pair_96 : decode cX2_pair 96 = .ok (.iinc 3 1, 3) := dk_132 3 1 (dk_at dksX2_pair_4 3 rfl rfl)
theorem dX2_pair_99 : decode cX2_pair 99 = .ok (.goto (-67), 3) := dk_167 255 189 (dk_at dksX2_pair_4 6 rfl rfl)
theorem dX2_pair_102 : decode cX2_pair 102 = .ok (.iload_n 2, 1) := dk_28 (dk_at dksX2_pair_4 9 rfl rfl)
theorem dX2_pair_103 : decode cX2_pair 103 = .ok (.ireturn, 1) := dk_172 (dk_at dksX2_pair_4 10 rfl rfl)
abbrev cX2_findOffer : ByteArray := prog_12_method_74_code
def yX2_findOffer : MethodName := ⟨RX2, "findOffer", "(I)V"⟩
def dkwX2_findOffer_4 : List UInt8 := [132, 3, 1, 167, 255, 214, 132, 2, 1, 167, 255, 170, 177]
abbrev dktX2_findOffer_4 : List UInt8 := dkwX2_findOffer_4 ++ []
def dkwX2_findOffer_3 : List UInt8 := [153, 0, 22, 42, 28, 29, 42, 29, 182, 0, 135, 42, 180, 0, 9, 16, 8, 46, 104, 182, 0, 233]
abbrev dktX2_findOffer_3 : List UInt8 := dkwX2_findOffer_3 ++ dktX2_findOffer_4
def dkwX2_findOffer_2 : List UInt8 := [182, 0, 233, 3, 62, 29, 42, 180, 0, 9, 3, 46, 162, 0, 38, 42, 28, 29, 27, 182, 0, 237]
abbrev dktX2_findOffer_2 : List UInt8 := dkwX2_findOffer_2 ++ dktX2_findOffer_3
def dkwX2_findOffer_1 : List UInt8 := [42, 28, 182, 0, 215, 154, 0, 68, 42, 28, 27, 4, 182, 0, 177, 154, 0, 11, 42, 28, 16, 254, 3]
abbrev dktX2_findOffer_1 : List UInt8 := dkwX2_findOffer_1 ++ dktX2_findOffer_2
def dkwX2_findOffer_0 : List UInt8 := [42, 16, 254, 181, 0, 221, 42, 16, 254, 181, 0, 230, 3, 61, 28, 42, 180, 0, 9, 4, 46, 162, 0, 82]
abbrev dktX2_findOffer_0 : List UInt8 := dkwX2_findOffer_0 ++ dktX2_findOffer_1
theorem dksX2_findOffer_0 : cX2_findOffer.data.toList.drop 0 = dktX2_findOffer_0 := by decide +kernel
theorem dksX2_findOffer_1 : cX2_findOffer.data.toList.drop 24 = dktX2_findOffer_1 := dk_seg dksX2_findOffer_0 24 rfl rfl
theorem dksX2_findOffer_2 : cX2_findOffer.data.toList.drop 47 = dktX2_findOffer_2 := dk_seg dksX2_findOffer_1 23 rfl rfl
theorem dksX2_findOffer_3 : cX2_findOffer.data.toList.drop 69 = dktX2_findOffer_3 := dk_seg dksX2_findOffer_2 22 rfl rfl
theorem dksX2_findOffer_4 : cX2_findOffer.data.toList.drop 91 = dktX2_findOffer_4 := dk_seg dksX2_findOffer_3 22 rfl rfl
theorem dX2_findOffer_0 : decode cX2_findOffer 0 = .ok (.aload_n 0, 1) := dk_42 (dk_at dksX2_findOffer_0 0 rfl rfl)
theorem dX2_findOffer_1 : decode cX2_findOffer 1 = .ok (.bipush (-2), 2) := dk_16 254 (dk_at dksX2_findOffer_0 1 rfl rfl)
theorem dX2_findOffer_3 : decode cX2_findOffer 3 = .ok (.putfield 221, 3) := dk_181 0 221 (dk_at dksX2_findOffer_0 3 rfl rfl)
theorem dX2_findOffer_6 : decode cX2_findOffer 6 = .ok (.aload_n 0, 1) := dk_42 (dk_at dksX2_findOffer_0 6 rfl rfl)
theorem dX2_findOffer_7 : decode cX2_findOffer 7 = .ok (.bipush (-2), 2) := dk_16 254 (dk_at dksX2_findOffer_0 7 rfl rfl)
theorem dX2_findOffer_9 : decode cX2_findOffer 9 = .ok (.putfield 230, 3) := dk_181 0 230 (dk_at dksX2_findOffer_0 9 rfl rfl)
theorem dX2_findOffer_12 : decode cX2_findOffer 12 = .ok (.iconst 0, 1) := dk_3 (dk_at dksX2_findOffer_0 12 rfl rfl)
theorem dX2_findOffer_13 : decode cX2_findOffer 13 = .ok (.istore_n 2, 1) := dk_61 (dk_at dksX2_findOffer_0 13 rfl rfl)
theorem dX2_findOffer_14 : decode cX2_findOffer 14 = .ok (.iload_n 2, 1) := dk_28 (dk_at dksX2_findOffer_0 14 rfl rfl)
theorem dX2_findOffer_15 : decode cX2_findOffer 15 = .ok (.aload_n 0, 1) := dk_42 (dk_at dksX2_findOffer_0 15 rfl rfl)
theorem dX2_findOffer_16 : decode cX2_findOffer 16 = .ok (.getfield 9, 3) := dk_180 0 9 (dk_at dksX2_findOffer_0 16 rfl rfl)
theorem dX2_findOffer_19 : decode cX2_findOffer 19 = .ok (.iconst 1, 1) := dk_4 (dk_at dksX2_findOffer_0 19 rfl rfl)
theorem dX2_findOffer_20 : decode cX2_findOffer 20 = .ok (.iaload, 1) := dk_46 (dk_at dksX2_findOffer_0 20 rfl rfl)
theorem dX2_findOffer_21 : decode cX2_findOffer 21 = .ok (.if_icmp .ge 82, 3) := dk_162 0 82 (dk_at dksX2_findOffer_0 21 rfl rfl)
theorem dX2_findOffer_24 : decode cX2_findOffer 24 = .ok (.aload_n 0, 1) := dk_42 (dk_at dksX2_findOffer_1 0 rfl rfl)
theorem dX2_findOffer_25 : decode cX2_findOffer 25 = .ok (.iload_n 2, 1) := dk_28 (dk_at dksX2_findOffer_1 1 rfl rfl)
theorem dX2_findOffer_26 : decode cX2_findOffer 26 = .ok (.invokevirtual 215, 3) := dk_182 0 215 (dk_at dksX2_findOffer_1 2 rfl rfl)
theorem dX2_findOffer_29 : decode cX2_findOffer 29 = .ok (.ifCond .ne 68, 3) := dk_154 0 68 (dk_at dksX2_findOffer_1 5 rfl rfl)
theorem dX2_findOffer_32 : decode cX2_findOffer 32 = .ok (.aload_n 0, 1) := dk_42 (dk_at dksX2_findOffer_1 8 rfl rfl)
theorem dX2_findOffer_33 : decode cX2_findOffer 33 = .ok (.iload_n 2, 1) := dk_28 (dk_at dksX2_findOffer_1 9 rfl rfl)
theorem dX2_findOffer_34 : decode cX2_findOffer 34 = .ok (.iload_n 1, 1) := dk_27 (dk_at dksX2_findOffer_1 10 rfl rfl)
theorem dX2_findOffer_35 : decode cX2_findOffer 35 = .ok (.iconst 1, 1) := dk_4 (dk_at dksX2_findOffer_1 11 rfl rfl)
theorem dX2_findOffer_36 : decode cX2_findOffer 36 = .ok (.invokevirtual 177, 3) := dk_182 0 177 (dk_at dksX2_findOffer_1 12 rfl rfl)
theorem dX2_findOffer_39 : decode cX2_findOffer 39 = .ok (.ifCond .ne 11, 3) := dk_154 0 11 (dk_at dksX2_findOffer_1 15 rfl rfl)
theorem dX2_findOffer_42 : decode cX2_findOffer 42 = .ok (.aload_n 0, 1) := dk_42 (dk_at dksX2_findOffer_1 18 rfl rfl)
theorem dX2_findOffer_43 : decode cX2_findOffer 43 = .ok (.iload_n 2, 1) := dk_28 (dk_at dksX2_findOffer_1 19 rfl rfl)
theorem dX2_findOffer_44 : decode cX2_findOffer 44 = .ok (.bipush (-2), 2) := dk_16 254 (dk_at dksX2_findOffer_1 20 rfl rfl)
theorem dX2_findOffer_46 : decode cX2_findOffer 46 = .ok (.iconst 0, 1) := dk_3 (dk_at dksX2_findOffer_1 22 rfl rfl)
theorem dX2_findOffer_47 : decode cX2_findOffer 47 = .ok (.invokevirtual 233, 3) := dk_182 0 233 (dk_at dksX2_findOffer_2 0 rfl rfl)
theorem dX2_findOffer_50 : decode cX2_findOffer 50 = .ok (.iconst 0, 1) := dk_3 (dk_at dksX2_findOffer_2 3 rfl rfl)
theorem dX2_findOffer_51 : decode cX2_findOffer 51 = .ok (.istore_n 3, 1) := dk_62 (dk_at dksX2_findOffer_2 4 rfl rfl)
theorem dX2_findOffer_52 : decode cX2_findOffer 52 = .ok (.iload_n 3, 1) := dk_29 (dk_at dksX2_findOffer_2 5 rfl rfl)
theorem dX2_findOffer_53 : decode cX2_findOffer 53 = .ok (.aload_n 0, 1) := dk_42 (dk_at dksX2_findOffer_2 6 rfl rfl)
theorem dX2_findOffer_54 : decode cX2_findOffer 54 = .ok (.getfield 9, 3) := dk_180 0 9 (dk_at dksX2_findOffer_2 7 rfl rfl)
theorem dX2_findOffer_57 : decode cX2_findOffer 57 = .ok (.iconst 0, 1) := dk_3 (dk_at dksX2_findOffer_2 10 rfl rfl)
theorem dX2_findOffer_58 : decode cX2_findOffer 58 = .ok (.iaload, 1) := dk_46 (dk_at dksX2_findOffer_2 11 rfl rfl)
theorem dX2_findOffer_59 : decode cX2_findOffer 59 = .ok (.if_icmp .ge 38, 3) := dk_162 0 38 (dk_at dksX2_findOffer_2 12 rfl rfl)
theorem dX2_findOffer_62 : decode cX2_findOffer 62 = .ok (.aload_n 0, 1) := dk_42 (dk_at dksX2_findOffer_2 15 rfl rfl)
theorem dX2_findOffer_63 : decode cX2_findOffer 63 = .ok (.iload_n 2, 1) := dk_28 (dk_at dksX2_findOffer_2 16 rfl rfl)
theorem dX2_findOffer_64 : decode cX2_findOffer 64 = .ok (.iload_n 3, 1) := dk_29 (dk_at dksX2_findOffer_2 17 rfl rfl)
theorem dX2_findOffer_65 : decode cX2_findOffer 65 = .ok (.iload_n 1, 1) := dk_27 (dk_at dksX2_findOffer_2 18 rfl rfl)
theorem dX2_findOffer_66 : decode cX2_findOffer 66 = .ok (.invokevirtual 237, 3) := dk_182 0 237 (dk_at dksX2_findOffer_2 19 rfl rfl)
theorem dX2_findOffer_69 : decode cX2_findOffer 69 = .ok (.ifCond .eq 22, 3) := dk_153 0 22 (dk_at dksX2_findOffer_3 0 rfl rfl)
theorem dX2_findOffer_72 : decode cX2_findOffer 72 = .ok (.aload_n 0, 1) := dk_42 (dk_at dksX2_findOffer_3 3 rfl rfl)
theorem dX2_findOffer_73 : decode cX2_findOffer 73 = .ok (.iload_n 2, 1) := dk_28 (dk_at dksX2_findOffer_3 4 rfl rfl)
theorem dX2_findOffer_74 : decode cX2_findOffer 74 = .ok (.iload_n 3, 1) := dk_29 (dk_at dksX2_findOffer_3 5 rfl rfl)
theorem dX2_findOffer_75 : decode cX2_findOffer 75 = .ok (.aload_n 0, 1) := dk_42 (dk_at dksX2_findOffer_3 6 rfl rfl)
theorem dX2_findOffer_76 : decode cX2_findOffer 76 = .ok (.iload_n 3, 1) := dk_29 (dk_at dksX2_findOffer_3 7 rfl rfl)
theorem dX2_findOffer_77 : decode cX2_findOffer 77 = .ok (.invokevirtual 135, 3) := dk_182 0 135 (dk_at dksX2_findOffer_3 8 rfl rfl)
theorem dX2_findOffer_80 : decode cX2_findOffer 80 = .ok (.aload_n 0, 1) := dk_42 (dk_at dksX2_findOffer_3 11 rfl rfl)
theorem dX2_findOffer_81 : decode cX2_findOffer 81 = .ok (.getfield 9, 3) := dk_180 0 9 (dk_at dksX2_findOffer_3 12 rfl rfl)
theorem dX2_findOffer_84 : decode cX2_findOffer 84 = .ok (.bipush 8, 2) := dk_16 8 (dk_at dksX2_findOffer_3 15 rfl rfl)
theorem dX2_findOffer_86 : decode cX2_findOffer 86 = .ok (.iaload, 1) := dk_46 (dk_at dksX2_findOffer_3 17 rfl rfl)
theorem dX2_findOffer_87 : decode cX2_findOffer 87 = .ok (.imul, 1) := dk_104 (dk_at dksX2_findOffer_3 18 rfl rfl)
theorem dX2_findOffer_88 : decode cX2_findOffer 88 = .ok (.invokevirtual 233, 3) := dk_182 0 233 (dk_at dksX2_findOffer_3 19 rfl rfl)
theorem dX2_findOffer_91 : decode cX2_findOffer 91 = .ok (.iinc 3 1, 3) := dk_132 3 1 (dk_at dksX2_findOffer_4 0 rfl rfl)
theorem dX2_findOffer_94 : decode cX2_findOffer 94 = .ok (.goto (-42), 3) := dk_167 255 214 (dk_at dksX2_findOffer_4 3 rfl rfl)
theorem dX2_findOffer_97 : decode cX2_findOffer 97 = .ok (.iinc 2 1, 3) := dk_132 2 1 (dk_at dksX2_findOffer_4 6 rfl rfl)
theorem dX2_findOffer_100 : decode cX2_findOffer 100 = .ok (.goto (-86), 3) := dk_167 255 170 (dk_at dksX2_findOffer_4 9 rfl rfl)
theorem dX2_findOffer_103 : decode cX2_findOffer 103 = .ok (.return_, 1) := dk_177 (dk_at dksX2_findOffer_4 12 rfl rfl)
abbrev cX2_consider : ByteArray := prog_12_method_72_code
def yX2_consider : MethodName := ⟨RX2, "consider", "(III)V"⟩
def dkwX2_consider_3 : List UInt8 := [177]
abbrev dktX2_consider_3 : List UInt8 := dkwX2_consider_3 ++ []
def dkwX2_consider_2 : List UInt8 := [153, 0, 24, 42, 27, 181, 0, 221, 42, 28, 181, 0, 230, 42, 29, 181, 0, 224, 42, 21, 4, 181, 0, 227]
abbrev dktX2_consider_2 : List UInt8 := dkwX2_consider_2 ++ dktX2_consider_3
def dkwX2_consider_1 : List UInt8 := [180, 0, 224, 160, 0, 16, 21, 4, 42, 180, 0, 227, 162, 0, 7, 4, 167, 0, 4, 3, 54, 5, 21, 5]
abbrev dktX2_consider_1 : List UInt8 := dkwX2_consider_1 ++ dktX2_consider_2
def dkwX2_consider_0 : List UInt8 := [42, 27, 182, 0, 193, 54, 4, 42, 180, 0, 221, 155, 0, 28, 29, 42, 180, 0, 224, 161, 0, 20, 29, 42]
abbrev dktX2_consider_0 : List UInt8 := dkwX2_consider_0 ++ dktX2_consider_1
theorem dksX2_consider_0 : cX2_consider.data.toList.drop 0 = dktX2_consider_0 := by decide +kernel
theorem dksX2_consider_1 : cX2_consider.data.toList.drop 24 = dktX2_consider_1 := dk_seg dksX2_consider_0 24 rfl rfl
theorem dksX2_consider_2 : cX2_consider.data.toList.drop 48 = dktX2_consider_2 := dk_seg dksX2_consider_1 24 rfl rfl
theorem dksX2_consider_3 : cX2_consider.data.toList.drop 72 = dktX2_consider_3 := dk_seg dksX2_consider_2 24 rfl rfl
theorem dX2_consider_0 : decode cX2_consider 0 = .ok (.aload_n 0, 1) := dk_42 (dk_at dksX2_consider_0 0 rfl rfl)
theorem dX2_consider_1 : decode cX2_consider 1 = .ok (.iload_n 1, 1) := dk_27 (dk_at dksX2_consider_0 1 rfl rfl)
theorem dX2_consider_2 : decode cX2_consider 2 = .ok (.invokevirtual 193, 3) := dk_182 0 193 (dk_at dksX2_consider_0 2 rfl rfl)
theorem dX2_consider_5 : decode cX2_consider 5 = .ok (.istore 4, 2) := dk_54 4 (dk_at dksX2_consider_0 5 rfl rfl)
theorem dX2_consider_7 : decode cX2_consider 7 = .ok (.aload_n 0, 1) := dk_42 (dk_at dksX2_consider_0 7 rfl rfl)
theorem dX2_consider_8 : decode cX2_consider 8 = .ok (.getfield 221, 3) := dk_180 0 221 (dk_at dksX2_consider_0 8 rfl rfl)
theorem dX2_consider_11 : decode cX2_consider 11 = .ok (.ifCond .lt 28, 3) := dk_155 0 28 (dk_at dksX2_consider_0 11 rfl rfl)
theorem dX2_consider_14 : decode cX2_consider 14 = .ok (.iload_n 3, 1) := dk_29 (dk_at dksX2_consider_0 14 rfl rfl)
theorem dX2_consider_15 : decode cX2_consider 15 = .ok (.aload_n 0, 1) := dk_42 (dk_at dksX2_consider_0 15 rfl rfl)
theorem dX2_consider_16 : decode cX2_consider 16 = .ok (.getfield 224, 3) := dk_180 0 224 (dk_at dksX2_consider_0 16 rfl rfl)
theorem dX2_consider_19 : decode cX2_consider 19 = .ok (.if_icmp .lt 20, 3) := dk_161 0 20 (dk_at dksX2_consider_0 19 rfl rfl)
theorem dX2_consider_22 : decode cX2_consider 22 = .ok (.iload_n 3, 1) := dk_29 (dk_at dksX2_consider_0 22 rfl rfl)
theorem dX2_consider_23 : decode cX2_consider 23 = .ok (.aload_n 0, 1) := dk_42 (dk_at dksX2_consider_0 23 rfl rfl)
theorem dX2_consider_24 : decode cX2_consider 24 = .ok (.getfield 224, 3) := dk_180 0 224 (dk_at dksX2_consider_1 0 rfl rfl)
theorem dX2_consider_27 : decode cX2_consider 27 = .ok (.if_icmp .ne 16, 3) := dk_160 0 16 (dk_at dksX2_consider_1 3 rfl rfl)
theorem dX2_consider_30 : decode cX2_consider 30 = .ok (.iload 4, 2) := dk_21 4 (dk_at dksX2_consider_1 6 rfl rfl)
theorem dX2_consider_32 : decode cX2_consider 32 = .ok (.aload_n 0, 1) := dk_42 (dk_at dksX2_consider_1 8 rfl rfl)
theorem dX2_consider_33 : decode cX2_consider 33 = .ok (.getfield 227, 3) := dk_180 0 227 (dk_at dksX2_consider_1 9 rfl rfl)
theorem dX2_consider_36 : decode cX2_consider 36 = .ok (.if_icmp .ge 7, 3) := dk_162 0 7 (dk_at dksX2_consider_1 12 rfl rfl)
theorem dX2_consider_39 : decode cX2_consider 39 = .ok (.iconst 1, 1) := dk_4 (dk_at dksX2_consider_1 15 rfl rfl)
theorem dX2_consider_40 : decode cX2_consider 40 = .ok (.goto 4, 3) := dk_167 0 4 (dk_at dksX2_consider_1 16 rfl rfl)
theorem dX2_consider_43 : decode cX2_consider 43 = .ok (.iconst 0, 1) := dk_3 (dk_at dksX2_consider_1 19 rfl rfl)
theorem dX2_consider_44 : decode cX2_consider 44 = .ok (.istore 5, 2) := dk_54 5 (dk_at dksX2_consider_1 20 rfl rfl)
theorem dX2_consider_46 : decode cX2_consider 46 = .ok (.iload 5, 2) := dk_21 5 (dk_at dksX2_consider_1 22 rfl rfl)
theorem dX2_consider_48 : decode cX2_consider 48 = .ok (.ifCond .eq 24, 3) := dk_153 0 24 (dk_at dksX2_consider_2 0 rfl rfl)
theorem dX2_consider_51 : decode cX2_consider 51 = .ok (.aload_n 0, 1) := dk_42 (dk_at dksX2_consider_2 3 rfl rfl)
theorem dX2_consider_52 : decode cX2_consider 52 = .ok (.iload_n 1, 1) := dk_27 (dk_at dksX2_consider_2 4 rfl rfl)
theorem dX2_consider_53 : decode cX2_consider 53 = .ok (.putfield 221, 3) := dk_181 0 221 (dk_at dksX2_consider_2 5 rfl rfl)
theorem dX2_consider_56 : decode cX2_consider 56 = .ok (.aload_n 0, 1) := dk_42 (dk_at dksX2_consider_2 8 rfl rfl)
theorem dX2_consider_57 : decode cX2_consider 57 = .ok (.iload_n 2, 1) := dk_28 (dk_at dksX2_consider_2 9 rfl rfl)
theorem dX2_consider_58 : decode cX2_consider 58 = .ok (.putfield 230, 3) := dk_181 0 230 (dk_at dksX2_consider_2 10 rfl rfl)
theorem dX2_consider_61 : decode cX2_consider 61 = .ok (.aload_n 0, 1) := dk_42 (dk_at dksX2_consider_2 13 rfl rfl)
theorem dX2_consider_62 : decode cX2_consider 62 = .ok (.iload_n 3, 1) := dk_29 (dk_at dksX2_consider_2 14 rfl rfl)
theorem dX2_consider_63 : decode cX2_consider 63 = .ok (.putfield 224, 3) := dk_181 0 224 (dk_at dksX2_consider_2 15 rfl rfl)
theorem dX2_consider_66 : decode cX2_consider 66 = .ok (.aload_n 0, 1) := dk_42 (dk_at dksX2_consider_2 18 rfl rfl)
theorem dX2_consider_67 : decode cX2_consider 67 = .ok (.iload 4, 2) := dk_21 4 (dk_at dksX2_consider_2 19 rfl rfl)
theorem dX2_consider_69 : decode cX2_consider 69 = .ok (.putfield 227, 3) := dk_181 0 227 (dk_at dksX2_consider_2 21 rfl rfl)
theorem dX2_consider_72 : decode cX2_consider 72 = .ok (.return_, 1) := dk_177 (dk_at dksX2_consider_3 0 rfl rfl)
abbrev cX2_isWay : ByteArray := prog_12_method_73_code
def yX2_isWay : MethodName := ⟨RX2, "isWay", "(III)Z"⟩
def dkwX2_isWay_2 : List UInt8 := [167, 0, 4, 3, 172]
abbrev dktX2_isWay_2 : List UInt8 := dkwX2_isWay_2 ++ []
def dkwX2_isWay_1 : List UInt8 := [158, 0, 5, 3, 172, 42, 28, 3, 182, 0, 157, 54, 4, 42, 29, 4, 182, 0, 168, 154, 0, 7, 4]
abbrev dktX2_isWay_1 : List UInt8 := dkwX2_isWay_1 ++ dktX2_isWay_2
def dkwX2_isWay_0 : List UInt8 := [42, 28, 5, 182, 0, 63, 42, 29, 5, 182, 0, 63, 162, 0, 13, 42, 27, 28, 3, 182, 0, 177]
abbrev dktX2_isWay_0 : List UInt8 := dkwX2_isWay_0 ++ dktX2_isWay_1
theorem dksX2_isWay_0 : cX2_isWay.data.toList.drop 0 = dktX2_isWay_0 := by decide +kernel
theorem dksX2_isWay_1 : cX2_isWay.data.toList.drop 22 = dktX2_isWay_1 := dk_seg dksX2_isWay_0 22 rfl rfl
theorem dksX2_isWay_2 : cX2_isWay.data.toList.drop 45 = dktX2_isWay_2 := dk_seg dksX2_isWay_1 23 rfl rfl
theorem dX2_isWay_0 : decode cX2_isWay 0 = .ok (.aload_n 0, 1) := dk_42 (dk_at dksX2_isWay_0 0 rfl rfl)
theorem dX2_isWay_1 : decode cX2_isWay 1 = .ok (.iload_n 2, 1) := dk_28 (dk_at dksX2_isWay_0 1 rfl rfl)
theorem dX2_isWay_2 : decode cX2_isWay 2 = .ok (.iconst 2, 1) := dk_5 (dk_at dksX2_isWay_0 2 rfl rfl)
theorem dX2_isWay_3 : decode cX2_isWay 3 = .ok (.invokevirtual 63, 3) := dk_182 0 63 (dk_at dksX2_isWay_0 3 rfl rfl)
theorem dX2_isWay_6 : decode cX2_isWay 6 = .ok (.aload_n 0, 1) := dk_42 (dk_at dksX2_isWay_0 6 rfl rfl)
theorem dX2_isWay_7 : decode cX2_isWay 7 = .ok (.iload_n 3, 1) := dk_29 (dk_at dksX2_isWay_0 7 rfl rfl)
theorem dX2_isWay_8 : decode cX2_isWay 8 = .ok (.iconst 2, 1) := dk_5 (dk_at dksX2_isWay_0 8 rfl rfl)
theorem dX2_isWay_9 : decode cX2_isWay 9 = .ok (.invokevirtual 63, 3) := dk_182 0 63 (dk_at dksX2_isWay_0 9 rfl rfl)
theorem dX2_isWay_12 : decode cX2_isWay 12 = .ok (.if_icmp .ge 13, 3) := dk_162 0 13 (dk_at dksX2_isWay_0 12 rfl rfl)
theorem dX2_isWay_15 : decode cX2_isWay 15 = .ok (.aload_n 0, 1) := dk_42 (dk_at dksX2_isWay_0 15 rfl rfl)
theorem dX2_isWay_16 : decode cX2_isWay 16 = .ok (.iload_n 1, 1) := dk_27 (dk_at dksX2_isWay_0 16 rfl rfl)
theorem dX2_isWay_17 : decode cX2_isWay 17 = .ok (.iload_n 2, 1) := dk_28 (dk_at dksX2_isWay_0 17 rfl rfl)
theorem dX2_isWay_18 : decode cX2_isWay 18 = .ok (.iconst 0, 1) := dk_3 (dk_at dksX2_isWay_0 18 rfl rfl)
theorem dX2_isWay_19 : decode cX2_isWay 19 = .ok (.invokevirtual 177, 3) := dk_182 0 177 (dk_at dksX2_isWay_0 19 rfl rfl)
theorem dX2_isWay_22 : decode cX2_isWay 22 = .ok (.ifCond .le 5, 3) := dk_158 0 5 (dk_at dksX2_isWay_1 0 rfl rfl)
theorem dX2_isWay_25 : decode cX2_isWay 25 = .ok (.iconst 0, 1) := dk_3 (dk_at dksX2_isWay_1 3 rfl rfl)
theorem dX2_isWay_26 : decode cX2_isWay 26 = .ok (.ireturn, 1) := dk_172 (dk_at dksX2_isWay_1 4 rfl rfl)
theorem dX2_isWay_27 : decode cX2_isWay 27 = .ok (.aload_n 0, 1) := dk_42 (dk_at dksX2_isWay_1 5 rfl rfl)
theorem dX2_isWay_28 : decode cX2_isWay 28 = .ok (.iload_n 2, 1) := dk_28 (dk_at dksX2_isWay_1 6 rfl rfl)
theorem dX2_isWay_29 : decode cX2_isWay 29 = .ok (.iconst 0, 1) := dk_3 (dk_at dksX2_isWay_1 7 rfl rfl)
theorem dX2_isWay_30 : decode cX2_isWay 30 = .ok (.invokevirtual 157, 3) := dk_182 0 157 (dk_at dksX2_isWay_1 8 rfl rfl)
theorem dX2_isWay_33 : decode cX2_isWay 33 = .ok (.istore 4, 2) := dk_54 4 (dk_at dksX2_isWay_1 11 rfl rfl)
theorem dX2_isWay_35 : decode cX2_isWay 35 = .ok (.aload_n 0, 1) := dk_42 (dk_at dksX2_isWay_1 13 rfl rfl)
theorem dX2_isWay_36 : decode cX2_isWay 36 = .ok (.iload_n 3, 1) := dk_29 (dk_at dksX2_isWay_1 14 rfl rfl)
theorem dX2_isWay_37 : decode cX2_isWay 37 = .ok (.iconst 1, 1) := dk_4 (dk_at dksX2_isWay_1 15 rfl rfl)
theorem dX2_isWay_38 : decode cX2_isWay 38 = .ok (.invokevirtual 168, 3) := dk_182 0 168 (dk_at dksX2_isWay_1 16 rfl rfl)
theorem dX2_isWay_41 : decode cX2_isWay 41 = .ok (.ifCond .ne 7, 3) := dk_154 0 7 (dk_at dksX2_isWay_1 19 rfl rfl)
theorem dX2_isWay_44 : decode cX2_isWay 44 = .ok (.iconst 1, 1) := dk_4 (dk_at dksX2_isWay_1 22 rfl rfl)
theorem dX2_isWay_45 : decode cX2_isWay 45 = .ok (.goto 4, 3) := dk_167 0 4 (dk_at dksX2_isWay_2 0 rfl rfl)
theorem dX2_isWay_48 : decode cX2_isWay 48 = .ok (.iconst 0, 1) := dk_3 (dk_at dksX2_isWay_2 3 rfl rfl)
theorem dX2_isWay_49 : decode cX2_isWay 49 = .ok (.ireturn, 1) := dk_172 (dk_at dksX2_isWay_2 4 rfl rfl)
abbrev cX2_offer : ByteArray := prog_12_method_76_code
def yX2_offer : MethodName := ⟨RX2, "offer", "(II)I"⟩
def dkwX2_offer_3 : List UInt8 := [180, 0, 224, 172]
abbrev dktX2_offer_3 : List UInt8 := dkwX2_offer_3 ++ []
def dkwX2_offer_2 : List UInt8 := [154, 0, 10, 42, 180, 0, 221, 167, 0, 19, 28, 4, 160, 0, 10, 42, 180, 0, 230, 167, 0, 7, 42]
abbrev dktX2_offer_2 : List UInt8 := dkwX2_offer_2 ++ dktX2_offer_3
def dkwX2_offer_1 : List UInt8 := [154, 0, 6, 16, 254, 172, 42, 27, 182, 0, 240, 42, 180, 0, 221, 156, 0, 8, 16, 254, 167, 0, 30, 28]
abbrev dktX2_offer_1 : List UInt8 := dkwX2_offer_1 ++ dktX2_offer_2
def dkwX2_offer_0 : List UInt8 := [42, 27, 182, 0, 100, 153, 0, 12, 28, 3, 5, 184, 0, 59, 154, 0, 5, 2, 172, 42, 27, 182, 0, 206]
abbrev dktX2_offer_0 : List UInt8 := dkwX2_offer_0 ++ dktX2_offer_1
theorem dksX2_offer_0 : cX2_offer.data.toList.drop 0 = dktX2_offer_0 := by decide +kernel
theorem dksX2_offer_1 : cX2_offer.data.toList.drop 24 = dktX2_offer_1 := dk_seg dksX2_offer_0 24 rfl rfl
theorem dksX2_offer_2 : cX2_offer.data.toList.drop 48 = dktX2_offer_2 := dk_seg dksX2_offer_1 24 rfl rfl
theorem dksX2_offer_3 : cX2_offer.data.toList.drop 71 = dktX2_offer_3 := dk_seg dksX2_offer_2 23 rfl rfl
theorem dX2_offer_0 : decode cX2_offer 0 = .ok (.aload_n 0, 1) := dk_42 (dk_at dksX2_offer_0 0 rfl rfl)
theorem dX2_offer_1 : decode cX2_offer 1 = .ok (.iload_n 1, 1) := dk_27 (dk_at dksX2_offer_0 1 rfl rfl)
theorem dX2_offer_2 : decode cX2_offer 2 = .ok (.invokevirtual 100, 3) := dk_182 0 100 (dk_at dksX2_offer_0 2 rfl rfl)
theorem dX2_offer_5 : decode cX2_offer 5 = .ok (.ifCond .eq 12, 3) := dk_153 0 12 (dk_at dksX2_offer_0 5 rfl rfl)
theorem dX2_offer_8 : decode cX2_offer 8 = .ok (.iload_n 2, 1) := dk_28 (dk_at dksX2_offer_0 8 rfl rfl)
theorem dX2_offer_9 : decode cX2_offer 9 = .ok (.iconst 0, 1) := dk_3 (dk_at dksX2_offer_0 9 rfl rfl)
theorem dX2_offer_10 : decode cX2_offer 10 = .ok (.iconst 2, 1) := dk_5 (dk_at dksX2_offer_0 10 rfl rfl)
theorem dX2_offer_11 : decode cX2_offer 11 = .ok (.invokestatic 59, 3) := dk_184 0 59 (dk_at dksX2_offer_0 11 rfl rfl)
theorem dX2_offer_14 : decode cX2_offer 14 = .ok (.ifCond .ne 5, 3) := dk_154 0 5 (dk_at dksX2_offer_0 14 rfl rfl)
theorem dX2_offer_17 : decode cX2_offer 17 = .ok (.iconst (-1), 1) := dk_2 (dk_at dksX2_offer_0 17 rfl rfl)
theorem dX2_offer_18 : decode cX2_offer 18 = .ok (.ireturn, 1) := dk_172 (dk_at dksX2_offer_0 18 rfl rfl)
theorem dX2_offer_19 : decode cX2_offer 19 = .ok (.aload_n 0, 1) := dk_42 (dk_at dksX2_offer_0 19 rfl rfl)
theorem dX2_offer_20 : decode cX2_offer 20 = .ok (.iload_n 1, 1) := dk_27 (dk_at dksX2_offer_0 20 rfl rfl)
theorem dX2_offer_21 : decode cX2_offer 21 = .ok (.invokevirtual 206, 3) := dk_182 0 206 (dk_at dksX2_offer_0 21 rfl rfl)
theorem dX2_offer_24 : decode cX2_offer 24 = .ok (.ifCond .ne 6, 3) := dk_154 0 6 (dk_at dksX2_offer_1 0 rfl rfl)
theorem dX2_offer_27 : decode cX2_offer 27 = .ok (.bipush (-2), 2) := dk_16 254 (dk_at dksX2_offer_1 3 rfl rfl)
theorem dX2_offer_29 : decode cX2_offer 29 = .ok (.ireturn, 1) := dk_172 (dk_at dksX2_offer_1 5 rfl rfl)
theorem dX2_offer_30 : decode cX2_offer 30 = .ok (.aload_n 0, 1) := dk_42 (dk_at dksX2_offer_1 6 rfl rfl)
theorem dX2_offer_31 : decode cX2_offer 31 = .ok (.iload_n 1, 1) := dk_27 (dk_at dksX2_offer_1 7 rfl rfl)
theorem dX2_offer_32 : decode cX2_offer 32 = .ok (.invokevirtual 240, 3) := dk_182 0 240 (dk_at dksX2_offer_1 8 rfl rfl)
theorem dX2_offer_35 : decode cX2_offer 35 = .ok (.aload_n 0, 1) := dk_42 (dk_at dksX2_offer_1 11 rfl rfl)
theorem dX2_offer_36 : decode cX2_offer 36 = .ok (.getfield 221, 3) := dk_180 0 221 (dk_at dksX2_offer_1 12 rfl rfl)
theorem dX2_offer_39 : decode cX2_offer 39 = .ok (.ifCond .ge 8, 3) := dk_156 0 8 (dk_at dksX2_offer_1 15 rfl rfl)
theorem dX2_offer_42 : decode cX2_offer 42 = .ok (.bipush (-2), 2) := dk_16 254 (dk_at dksX2_offer_1 18 rfl rfl)
theorem dX2_offer_44 : decode cX2_offer 44 = .ok (.goto 30, 3) := dk_167 0 30 (dk_at dksX2_offer_1 20 rfl rfl)
theorem dX2_offer_47 : decode cX2_offer 47 = .ok (.iload_n 2, 1) := dk_28 (dk_at dksX2_offer_1 23 rfl rfl)
theorem dX2_offer_48 : decode cX2_offer 48 = .ok (.ifCond .ne 10, 3) := dk_154 0 10 (dk_at dksX2_offer_2 0 rfl rfl)
theorem dX2_offer_51 : decode cX2_offer 51 = .ok (.aload_n 0, 1) := dk_42 (dk_at dksX2_offer_2 3 rfl rfl)
theorem dX2_offer_52 : decode cX2_offer 52 = .ok (.getfield 221, 3) := dk_180 0 221 (dk_at dksX2_offer_2 4 rfl rfl)
theorem dX2_offer_55 : decode cX2_offer 55 = .ok (.goto 19, 3) := dk_167 0 19 (dk_at dksX2_offer_2 7 rfl rfl)
theorem dX2_offer_58 : decode cX2_offer 58 = .ok (.iload_n 2, 1) := dk_28 (dk_at dksX2_offer_2 10 rfl rfl)
theorem dX2_offer_59 : decode cX2_offer 59 = .ok (.iconst 1, 1) := dk_4 (dk_at dksX2_offer_2 11 rfl rfl)
theorem dX2_offer_60 : decode cX2_offer 60 = .ok (.if_icmp .ne 10, 3) := dk_160 0 10 (dk_at dksX2_offer_2 12 rfl rfl)
theorem dX2_offer_63 : decode cX2_offer 63 = .ok (.aload_n 0, 1) := dk_42 (dk_at dksX2_offer_2 15 rfl rfl)
theorem dX2_offer_64 : decode cX2_offer 64 = .ok (.getfield 230, 3) := dk_180 0 230 (dk_at dksX2_offer_2 16 rfl rfl)
theorem dX2_offer_67 : decode cX2_offer 67 = .ok (.goto 7, 3) := dk_167 0 7 (dk_at dksX2_offer_2 19 rfl rfl)
theorem dX2_offer_70 : decode cX2_offer 70 = .ok (.aload_n 0, 1) := dk_42 (dk_at dksX2_offer_2 22 rfl rfl)
theorem dX2_offer_71 : decode cX2_offer 71 = .ok (.getfield 224, 3) := dk_180 0 224 (dk_at dksX2_offer_3 0 rfl rfl)
theorem dX2_offer_74 : decode cX2_offer 74 = .ok (.ireturn, 1) := dk_172 (dk_at dksX2_offer_3 3 rfl rfl)
abbrev cX2_repair : ByteArray := prog_12_method_77_code
def yX2_repair : MethodName := ⟨RX2, "repair", "()I"⟩
def dkwX2_repair_10 : List UInt8 := [180, 0, 243, 172]
abbrev dktX2_repair_10 : List UInt8 := dkwX2_repair_10 ++ []
def dkwX2_repair_9 : List UInt8 := [42, 180, 0, 28, 28, 46, 182, 0, 246, 132, 3, 1, 167, 255, 201, 132, 2, 1, 167, 255, 188, 42]
abbrev dktX2_repair_9 : List UInt8 := dkwX2_repair_9 ++ dktX2_repair_10
def dkwX2_repair_8 : List UInt8 := [180, 0, 28, 28, 46, 160, 0, 28, 42, 180, 0, 31, 7, 29, 104, 5, 96, 46, 4, 160, 0, 14, 42, 29]
abbrev dktX2_repair_8 : List UInt8 := dkwX2_repair_8 ++ dktX2_repair_9
def dkwX2_repair_7 : List UInt8 := [162, 0, 69, 3, 62, 29, 42, 180, 0, 243, 162, 0, 53, 42, 180, 0, 31, 7, 29, 104, 4, 96, 46, 42]
abbrev dktX2_repair_7 : List UInt8 := dkwX2_repair_7 ++ dktX2_repair_8
def dkwX2_repair_6 : List UInt8 := [180, 0, 203, 60, 42, 180, 0, 25, 3, 42, 180, 0, 28, 3, 16, 25, 184, 0, 53, 3, 61, 28, 27]
abbrev dktX2_repair_6 : List UInt8 := dkwX2_repair_6 ++ dktX2_repair_7
def dkwX2_repair_5 : List UInt8 := [3, 182, 0, 154, 61, 167, 255, 164, 42, 27, 182, 0, 171, 132, 1, 1, 167, 255, 132, 42, 182, 0, 209, 42]
abbrev dktX2_repair_5 : List UInt8 := dkwX2_repair_5 ++ dktX2_repair_6
def dkwX2_repair_4 : List UInt8 := [6, 96, 16, 254, 79, 42, 89, 180, 0, 243, 4, 96, 181, 0, 243, 42, 28, 16, 100, 112, 182, 0, 161, 42]
abbrev dktX2_repair_4 : List UInt8 := dkwX2_repair_4 ++ dktX2_repair_5
def dkwX2_repair_3 : List UInt8 := [5, 96, 42, 28, 16, 100, 112, 182, 0, 132, 153, 0, 7, 4, 167, 0, 4, 3, 79, 42, 180, 0, 31, 29]
abbrev dktX2_repair_3 : List UInt8 := dkwX2_repair_3 ++ dktX2_repair_4
def dkwX2_repair_2 : List UInt8 := [29, 27, 79, 42, 180, 0, 31, 29, 4, 96, 42, 28, 16, 100, 112, 182, 0, 120, 79, 42, 180, 0, 31, 29]
abbrev dktX2_repair_2 : List UInt8 := dkwX2_repair_2 ++ dktX2_repair_3
def dkwX2_repair_1 : List UInt8 := [182, 0, 165, 42, 3, 182, 0, 154, 61, 28, 158, 0, 94, 7, 42, 180, 0, 243, 104, 62, 42, 180, 0, 31]
abbrev dktX2_repair_1 : List UInt8 := dkwX2_repair_1 ++ dktX2_repair_2
def dkwX2_repair_0 : List UInt8 := [42, 182, 0, 88, 42, 3, 181, 0, 243, 3, 60, 27, 42, 180, 0, 9, 4, 46, 162, 0, 120, 42, 27]
abbrev dktX2_repair_0 : List UInt8 := dkwX2_repair_0 ++ dktX2_repair_1
theorem dksX2_repair_0 : cX2_repair.data.toList.drop 0 = dktX2_repair_0 := by decide +kernel
theorem dksX2_repair_1 : cX2_repair.data.toList.drop 23 = dktX2_repair_1 := dk_seg dksX2_repair_0 23 rfl rfl
theorem dksX2_repair_2 : cX2_repair.data.toList.drop 47 = dktX2_repair_2 := dk_seg dksX2_repair_1 24 rfl rfl
theorem dksX2_repair_3 : cX2_repair.data.toList.drop 71 = dktX2_repair_3 := dk_seg dksX2_repair_2 24 rfl rfl
theorem dksX2_repair_4 : cX2_repair.data.toList.drop 95 = dktX2_repair_4 := dk_seg dksX2_repair_3 24 rfl rfl
theorem dksX2_repair_5 : cX2_repair.data.toList.drop 119 = dktX2_repair_5 := dk_seg dksX2_repair_4 24 rfl rfl
theorem dksX2_repair_6 : cX2_repair.data.toList.drop 143 = dktX2_repair_6 := dk_seg dksX2_repair_5 24 rfl rfl
theorem dksX2_repair_7 : cX2_repair.data.toList.drop 166 = dktX2_repair_7 := dk_seg dksX2_repair_6 23 rfl rfl
theorem dksX2_repair_8 : cX2_repair.data.toList.drop 190 = dktX2_repair_8 := dk_seg dksX2_repair_7 24 rfl rfl
theorem dksX2_repair_9 : cX2_repair.data.toList.drop 214 = dktX2_repair_9 := dk_seg dksX2_repair_8 24 rfl rfl
theorem dksX2_repair_10 : cX2_repair.data.toList.drop 236 = dktX2_repair_10 := dk_seg dksX2_repair_9 22 rfl rfl
theorem dX2_repair_0 : decode cX2_repair 0 = .ok (.aload_n 0, 1) := dk_42 (dk_at dksX2_repair_0 0 rfl rfl)
theorem dX2_repair_1 : decode cX2_repair 1 = .ok (.invokevirtual 88, 3) := dk_182 0 88 (dk_at dksX2_repair_0 1 rfl rfl)
theorem dX2_repair_4 : decode cX2_repair 4 = .ok (.aload_n 0, 1) := dk_42 (dk_at dksX2_repair_0 4 rfl rfl)
theorem dX2_repair_5 : decode cX2_repair 5 = .ok (.iconst 0, 1) := dk_3 (dk_at dksX2_repair_0 5 rfl rfl)
theorem dX2_repair_6 : decode cX2_repair 6 = .ok (.putfield 243, 3) := dk_181 0 243 (dk_at dksX2_repair_0 6 rfl rfl)
theorem dX2_repair_9 : decode cX2_repair 9 = .ok (.iconst 0, 1) := dk_3 (dk_at dksX2_repair_0 9 rfl rfl)
theorem dX2_repair_10 : decode cX2_repair 10 = .ok (.istore_n 1, 1) := dk_60 (dk_at dksX2_repair_0 10 rfl rfl)
theorem dX2_repair_11 : decode cX2_repair 11 = .ok (.iload_n 1, 1) := dk_27 (dk_at dksX2_repair_0 11 rfl rfl)
theorem dX2_repair_12 : decode cX2_repair 12 = .ok (.aload_n 0, 1) := dk_42 (dk_at dksX2_repair_0 12 rfl rfl)
theorem dX2_repair_13 : decode cX2_repair 13 = .ok (.getfield 9, 3) := dk_180 0 9 (dk_at dksX2_repair_0 13 rfl rfl)
theorem dX2_repair_16 : decode cX2_repair 16 = .ok (.iconst 1, 1) := dk_4 (dk_at dksX2_repair_0 16 rfl rfl)
theorem dX2_repair_17 : decode cX2_repair 17 = .ok (.iaload, 1) := dk_46 (dk_at dksX2_repair_0 17 rfl rfl)
theorem dX2_repair_18 : decode cX2_repair 18 = .ok (.if_icmp .ge 120, 3) := dk_162 0 120 (dk_at dksX2_repair_0 18 rfl rfl)
theorem dX2_repair_21 : decode cX2_repair 21 = .ok (.aload_n 0, 1) := dk_42 (dk_at dksX2_repair_0 21 rfl rfl)
theorem dX2_repair_22 : decode cX2_repair 22 = .ok (.iload_n 1, 1) := dk_27 (dk_at dksX2_repair_0 22 rfl rfl)
theorem dX2_repair_23 : decode cX2_repair 23 = .ok (.invokevirtual 165, 3) := dk_182 0 165 (dk_at dksX2_repair_1 0 rfl rfl)
theorem dX2_repair_26 : decode cX2_repair 26 = .ok (.aload_n 0, 1) := dk_42 (dk_at dksX2_repair_1 3 rfl rfl)
theorem dX2_repair_27 : decode cX2_repair 27 = .ok (.iconst 0, 1) := dk_3 (dk_at dksX2_repair_1 4 rfl rfl)
theorem dX2_repair_28 : decode cX2_repair 28 = .ok (.invokevirtual 154, 3) := dk_182 0 154 (dk_at dksX2_repair_1 5 rfl rfl)
theorem dX2_repair_31 : decode cX2_repair 31 = .ok (.istore_n 2, 1) := dk_61 (dk_at dksX2_repair_1 8 rfl rfl)
theorem dX2_repair_32 : decode cX2_repair 32 = .ok (.iload_n 2, 1) := dk_28 (dk_at dksX2_repair_1 9 rfl rfl)
theorem dX2_repair_33 : decode cX2_repair 33 = .ok (.ifCond .le 94, 3) := dk_158 0 94 (dk_at dksX2_repair_1 10 rfl rfl)
theorem dX2_repair_36 : decode cX2_repair 36 = .ok (.iconst 4, 1) := dk_7 (dk_at dksX2_repair_1 13 rfl rfl)
theorem dX2_repair_37 : decode cX2_repair 37 = .ok (.aload_n 0, 1) := dk_42 (dk_at dksX2_repair_1 14 rfl rfl)
theorem dX2_repair_38 : decode cX2_repair 38 = .ok (.getfield 243, 3) := dk_180 0 243 (dk_at dksX2_repair_1 15 rfl rfl)
theorem dX2_repair_41 : decode cX2_repair 41 = .ok (.imul, 1) := dk_104 (dk_at dksX2_repair_1 18 rfl rfl)
theorem dX2_repair_42 : decode cX2_repair 42 = .ok (.istore_n 3, 1) := dk_62 (dk_at dksX2_repair_1 19 rfl rfl)
theorem dX2_repair_43 : decode cX2_repair 43 = .ok (.aload_n 0, 1) := dk_42 (dk_at dksX2_repair_1 20 rfl rfl)
theorem dX2_repair_44 : decode cX2_repair 44 = .ok (.getfield 31, 3) := dk_180 0 31 (dk_at dksX2_repair_1 21 rfl rfl)
theorem dX2_repair_47 : decode cX2_repair 47 = .ok (.iload_n 3, 1) := dk_29 (dk_at dksX2_repair_2 0 rfl rfl)
theorem dX2_repair_48 : decode cX2_repair 48 = .ok (.iload_n 1, 1) := dk_27 (dk_at dksX2_repair_2 1 rfl rfl)
theorem dX2_repair_49 : decode cX2_repair 49 = .ok (.iastore, 1) := dk_79 (dk_at dksX2_repair_2 2 rfl rfl)
theorem dX2_repair_50 : decode cX2_repair 50 = .ok (.aload_n 0, 1) := dk_42 (dk_at dksX2_repair_2 3 rfl rfl)
theorem dX2_repair_51 : decode cX2_repair 51 = .ok (.getfield 31, 3) := dk_180 0 31 (dk_at dksX2_repair_2 4 rfl rfl)
theorem dX2_repair_54 : decode cX2_repair 54 = .ok (.iload_n 3, 1) := dk_29 (dk_at dksX2_repair_2 7 rfl rfl)
theorem dX2_repair_55 : decode cX2_repair 55 = .ok (.iconst 1, 1) := dk_4 (dk_at dksX2_repair_2 8 rfl rfl)
theorem dX2_repair_56 : decode cX2_repair 56 = .ok (.iadd, 1) := dk_96 (dk_at dksX2_repair_2 9 rfl rfl)
theorem dX2_repair_57 : decode cX2_repair 57 = .ok (.aload_n 0, 1) := dk_42 (dk_at dksX2_repair_2 10 rfl rfl)
theorem dX2_repair_58 : decode cX2_repair 58 = .ok (.iload_n 2, 1) := dk_28 (dk_at dksX2_repair_2 11 rfl rfl)
theorem dX2_repair_59 : decode cX2_repair 59 = .ok (.bipush 100, 2) := dk_16 100 (dk_at dksX2_repair_2 12 rfl rfl)
theorem dX2_repair_61 : decode cX2_repair 61 = .ok (.irem, 1) := dk_112 (dk_at dksX2_repair_2 14 rfl rfl)
theorem dX2_repair_62 : decode cX2_repair 62 = .ok (.invokevirtual 120, 3) := dk_182 0 120 (dk_at dksX2_repair_2 15 rfl rfl)
theorem dX2_repair_65 : decode cX2_repair 65 = .ok (.iastore, 1) := dk_79 (dk_at dksX2_repair_2 18 rfl rfl)
theorem dX2_repair_66 : decode cX2_repair 66 = .ok (.aload_n 0, 1) := dk_42 (dk_at dksX2_repair_2 19 rfl rfl)
theorem dX2_repair_67 : decode cX2_repair 67 = .ok (.getfield 31, 3) := dk_180 0 31 (dk_at dksX2_repair_2 20 rfl rfl)
theorem dX2_repair_70 : decode cX2_repair 70 = .ok (.iload_n 3, 1) := dk_29 (dk_at dksX2_repair_2 23 rfl rfl)
theorem dX2_repair_71 : decode cX2_repair 71 = .ok (.iconst 2, 1) := dk_5 (dk_at dksX2_repair_3 0 rfl rfl)
theorem dX2_repair_72 : decode cX2_repair 72 = .ok (.iadd, 1) := dk_96 (dk_at dksX2_repair_3 1 rfl rfl)
theorem dX2_repair_73 : decode cX2_repair 73 = .ok (.aload_n 0, 1) := dk_42 (dk_at dksX2_repair_3 2 rfl rfl)
theorem dX2_repair_74 : decode cX2_repair 74 = .ok (.iload_n 2, 1) := dk_28 (dk_at dksX2_repair_3 3 rfl rfl)
theorem dX2_repair_75 : decode cX2_repair 75 = .ok (.bipush 100, 2) := dk_16 100 (dk_at dksX2_repair_3 4 rfl rfl)
theorem dX2_repair_77 : decode cX2_repair 77 = .ok (.irem, 1) := dk_112 (dk_at dksX2_repair_3 6 rfl rfl)
theorem dX2_repair_78 : decode cX2_repair 78 = .ok (.invokevirtual 132, 3) := dk_182 0 132 (dk_at dksX2_repair_3 7 rfl rfl)
theorem dX2_repair_81 : decode cX2_repair 81 = .ok (.ifCond .eq 7, 3) := dk_153 0 7 (dk_at dksX2_repair_3 10 rfl rfl)
theorem dX2_repair_84 : decode cX2_repair 84 = .ok (.iconst 1, 1) := dk_4 (dk_at dksX2_repair_3 13 rfl rfl)
theorem dX2_repair_85 : decode cX2_repair 85 = .ok (.goto 4, 3) := dk_167 0 4 (dk_at dksX2_repair_3 14 rfl rfl)
theorem dX2_repair_88 : decode cX2_repair 88 = .ok (.iconst 0, 1) := dk_3 (dk_at dksX2_repair_3 17 rfl rfl)
theorem dX2_repair_89 : decode cX2_repair 89 = .ok (.iastore, 1) := dk_79 (dk_at dksX2_repair_3 18 rfl rfl)
theorem dX2_repair_90 : decode cX2_repair 90 = .ok (.aload_n 0, 1) := dk_42 (dk_at dksX2_repair_3 19 rfl rfl)
theorem dX2_repair_91 : decode cX2_repair 91 = .ok (.getfield 31, 3) := dk_180 0 31 (dk_at dksX2_repair_3 20 rfl rfl)
theorem dX2_repair_94 : decode cX2_repair 94 = .ok (.iload_n 3, 1) := dk_29 (dk_at dksX2_repair_3 23 rfl rfl)
theorem dX2_repair_95 : decode cX2_repair 95 = .ok (.iconst 3, 1) := dk_6 (dk_at dksX2_repair_4 0 rfl rfl)
theorem dX2_repair_96 : decode cX2_repair 96 = .ok (.iadd, 1) := dk_96 (dk_at dksX2_repair_4 1 rfl rfl)
theorem dX2_repair_97 : decode cX2_repair 97 = .ok (.bipush (-2), 2) := dk_16 254 (dk_at dksX2_repair_4 2 rfl rfl)
theorem dX2_repair_99 : decode cX2_repair 99 = .ok (.iastore, 1) := dk_79 (dk_at dksX2_repair_4 4 rfl rfl)
theorem dX2_repair_100 : decode cX2_repair 100 = .ok (.aload_n 0, 1) := dk_42 (dk_at dksX2_repair_4 5 rfl rfl)
theorem dX2_repair_101 : decode cX2_repair 101 = .ok (.dup, 1) := dk_89 (dk_at dksX2_repair_4 6 rfl rfl)
theorem dX2_repair_102 : decode cX2_repair 102 = .ok (.getfield 243, 3) := dk_180 0 243 (dk_at dksX2_repair_4 7 rfl rfl)
theorem dX2_repair_105 : decode cX2_repair 105 = .ok (.iconst 1, 1) := dk_4 (dk_at dksX2_repair_4 10 rfl rfl)
theorem dX2_repair_106 : decode cX2_repair 106 = .ok (.iadd, 1) := dk_96 (dk_at dksX2_repair_4 11 rfl rfl)
theorem dX2_repair_107 : decode cX2_repair 107 = .ok (.putfield 243, 3) := dk_181 0 243 (dk_at dksX2_repair_4 12 rfl rfl)
theorem dX2_repair_110 : decode cX2_repair 110 = .ok (.aload_n 0, 1) := dk_42 (dk_at dksX2_repair_4 15 rfl rfl)
theorem dX2_repair_111 : decode cX2_repair 111 = .ok (.iload_n 2, 1) := dk_28 (dk_at dksX2_repair_4 16 rfl rfl)
theorem dX2_repair_112 : decode cX2_repair 112 = .ok (.bipush 100, 2) := dk_16 100 (dk_at dksX2_repair_4 17 rfl rfl)
theorem dX2_repair_114 : decode cX2_repair 114 = .ok (.irem, 1) := dk_112 (dk_at dksX2_repair_4 19 rfl rfl)
theorem dX2_repair_115 : decode cX2_repair 115 = .ok (.invokevirtual 161, 3) := dk_182 0 161 (dk_at dksX2_repair_4 20 rfl rfl)
theorem dX2_repair_118 : decode cX2_repair 118 = .ok (.aload_n 0, 1) := dk_42 (dk_at dksX2_repair_4 23 rfl rfl)
theorem dX2_repair_119 : decode cX2_repair 119 = .ok (.iconst 0, 1) := dk_3 (dk_at dksX2_repair_5 0 rfl rfl)
theorem dX2_repair_120 : decode cX2_repair 120 = .ok (.invokevirtual 154, 3) := dk_182 0 154 (dk_at dksX2_repair_5 1 rfl rfl)
theorem dX2_repair_123 : decode cX2_repair 123 = .ok (.istore_n 2, 1) := dk_61 (dk_at dksX2_repair_5 4 rfl rfl)
theorem dX2_repair_124 : decode cX2_repair 124 = .ok (.goto (-92), 3) := dk_167 255 164 (dk_at dksX2_repair_5 5 rfl rfl)
theorem dX2_repair_127 : decode cX2_repair 127 = .ok (.aload_n 0, 1) := dk_42 (dk_at dksX2_repair_5 8 rfl rfl)
theorem dX2_repair_128 : decode cX2_repair 128 = .ok (.iload_n 1, 1) := dk_27 (dk_at dksX2_repair_5 9 rfl rfl)
theorem dX2_repair_129 : decode cX2_repair 129 = .ok (.invokevirtual 171, 3) := dk_182 0 171 (dk_at dksX2_repair_5 10 rfl rfl)
theorem dX2_repair_132 : decode cX2_repair 132 = .ok (.iinc 1 1, 3) := dk_132 1 1 (dk_at dksX2_repair_5 13 rfl rfl)
theorem dX2_repair_135 : decode cX2_repair 135 = .ok (.goto (-124), 3) := dk_167 255 132 (dk_at dksX2_repair_5 16 rfl rfl)
theorem dX2_repair_138 : decode cX2_repair 138 = .ok (.aload_n 0, 1) := dk_42 (dk_at dksX2_repair_5 19 rfl rfl)
theorem dX2_repair_139 : decode cX2_repair 139 = .ok (.invokevirtual 209, 3) := dk_182 0 209 (dk_at dksX2_repair_5 20 rfl rfl)
theorem dX2_repair_142 : decode cX2_repair 142 = .ok (.aload_n 0, 1) := dk_42 (dk_at dksX2_repair_5 23 rfl rfl)
theorem dX2_repair_143 : decode cX2_repair 143 = .ok (.getfield 203, 3) := dk_180 0 203 (dk_at dksX2_repair_6 0 rfl rfl)
theorem dX2_repair_146 : decode cX2_repair 146 = .ok (.istore_n 1, 1) := dk_60 (dk_at dksX2_repair_6 3 rfl rfl)
theorem dX2_repair_147 : decode cX2_repair 147 = .ok (.aload_n 0, 1) := dk_42 (dk_at dksX2_repair_6 4 rfl rfl)
theorem dX2_repair_148 : decode cX2_repair 148 = .ok (.getfield 25, 3) := dk_180 0 25 (dk_at dksX2_repair_6 5 rfl rfl)
theorem dX2_repair_151 : decode cX2_repair 151 = .ok (.iconst 0, 1) := dk_3 (dk_at dksX2_repair_6 8 rfl rfl)
theorem dX2_repair_152 : decode cX2_repair 152 = .ok (.aload_n 0, 1) := dk_42 (dk_at dksX2_repair_6 9 rfl rfl)
theorem dX2_repair_153 : decode cX2_repair 153 = .ok (.getfield 28, 3) := dk_180 0 28 (dk_at dksX2_repair_6 10 rfl rfl)
theorem dX2_repair_156 : decode cX2_repair 156 = .ok (.iconst 0, 1) := dk_3 (dk_at dksX2_repair_6 13 rfl rfl)
theorem dX2_repair_157 : decode cX2_repair 157 = .ok (.bipush 25, 2) := dk_16 25 (dk_at dksX2_repair_6 14 rfl rfl)
theorem dX2_repair_159 : decode cX2_repair 159 = .ok (.invokestatic 53, 3) := dk_184 0 53 (dk_at dksX2_repair_6 16 rfl rfl)
theorem dX2_repair_162 : decode cX2_repair 162 = .ok (.iconst 0, 1) := dk_3 (dk_at dksX2_repair_6 19 rfl rfl)
theorem dX2_repair_163 : decode cX2_repair 163 = .ok (.istore_n 2, 1) := dk_61 (dk_at dksX2_repair_6 20 rfl rfl)
theorem dX2_repair_164 : decode cX2_repair 164 = .ok (.iload_n 2, 1) := dk_28 (dk_at dksX2_repair_6 21 rfl rfl)
theorem dX2_repair_165 : decode cX2_repair 165 = .ok (.iload_n 1, 1) := dk_27 (dk_at dksX2_repair_6 22 rfl rfl)
theorem dX2_repair_166 : decode cX2_repair 166 = .ok (.if_icmp .ge 69, 3) := dk_162 0 69 (dk_at dksX2_repair_7 0 rfl rfl)
theorem dX2_repair_169 : decode cX2_repair 169 = .ok (.iconst 0, 1) := dk_3 (dk_at dksX2_repair_7 3 rfl rfl)
theorem dX2_repair_170 : decode cX2_repair 170 = .ok (.istore_n 3, 1) := dk_62 (dk_at dksX2_repair_7 4 rfl rfl)
theorem dX2_repair_171 : decode cX2_repair 171 = .ok (.iload_n 3, 1) := dk_29 (dk_at dksX2_repair_7 5 rfl rfl)
theorem dX2_repair_172 : decode cX2_repair 172 = .ok (.aload_n 0, 1) := dk_42 (dk_at dksX2_repair_7 6 rfl rfl)
theorem dX2_repair_173 : decode cX2_repair 173 = .ok (.getfield 243, 3) := dk_180 0 243 (dk_at dksX2_repair_7 7 rfl rfl)
theorem dX2_repair_176 : decode cX2_repair 176 = .ok (.if_icmp .ge 53, 3) := dk_162 0 53 (dk_at dksX2_repair_7 10 rfl rfl)
theorem dX2_repair_179 : decode cX2_repair 179 = .ok (.aload_n 0, 1) := dk_42 (dk_at dksX2_repair_7 13 rfl rfl)
theorem dX2_repair_180 : decode cX2_repair 180 = .ok (.getfield 31, 3) := dk_180 0 31 (dk_at dksX2_repair_7 14 rfl rfl)
theorem dX2_repair_183 : decode cX2_repair 183 = .ok (.iconst 4, 1) := dk_7 (dk_at dksX2_repair_7 17 rfl rfl)
theorem dX2_repair_184 : decode cX2_repair 184 = .ok (.iload_n 3, 1) := dk_29 (dk_at dksX2_repair_7 18 rfl rfl)
theorem dX2_repair_185 : decode cX2_repair 185 = .ok (.imul, 1) := dk_104 (dk_at dksX2_repair_7 19 rfl rfl)
theorem dX2_repair_186 : decode cX2_repair 186 = .ok (.iconst 1, 1) := dk_4 (dk_at dksX2_repair_7 20 rfl rfl)
theorem dX2_repair_187 : decode cX2_repair 187 = .ok (.iadd, 1) := dk_96 (dk_at dksX2_repair_7 21 rfl rfl)
theorem dX2_repair_188 : decode cX2_repair 188 = .ok (.iaload, 1) := dk_46 (dk_at dksX2_repair_7 22 rfl rfl)
theorem dX2_repair_189 : decode cX2_repair 189 = .ok (.aload_n 0, 1) := dk_42 (dk_at dksX2_repair_7 23 rfl rfl)
theorem dX2_repair_190 : decode cX2_repair 190 = .ok (.getfield 28, 3) := dk_180 0 28 (dk_at dksX2_repair_8 0 rfl rfl)
theorem dX2_repair_193 : decode cX2_repair 193 = .ok (.iload_n 2, 1) := dk_28 (dk_at dksX2_repair_8 3 rfl rfl)
theorem dX2_repair_194 : decode cX2_repair 194 = .ok (.iaload, 1) := dk_46 (dk_at dksX2_repair_8 4 rfl rfl)
theorem dX2_repair_195 : decode cX2_repair 195 = .ok (.if_icmp .ne 28, 3) := dk_160 0 28 (dk_at dksX2_repair_8 5 rfl rfl)
theorem dX2_repair_198 : decode cX2_repair 198 = .ok (.aload_n 0, 1) := dk_42 (dk_at dksX2_repair_8 8 rfl rfl)
theorem dX2_repair_199 : decode cX2_repair 199 = .ok (.getfield 31, 3) := dk_180 0 31 (dk_at dksX2_repair_8 9 rfl rfl)
theorem dX2_repair_202 : decode cX2_repair 202 = .ok (.iconst 4, 1) := dk_7 (dk_at dksX2_repair_8 12 rfl rfl)
theorem dX2_repair_203 : decode cX2_repair 203 = .ok (.iload_n 3, 1) := dk_29 (dk_at dksX2_repair_8 13 rfl rfl)
theorem dX2_repair_204 : decode cX2_repair 204 = .ok (.imul, 1) := dk_104 (dk_at dksX2_repair_8 14 rfl rfl)
theorem dX2_repair_205 : decode cX2_repair 205 = .ok (.iconst 2, 1) := dk_5 (dk_at dksX2_repair_8 15 rfl rfl)
theorem dX2_repair_206 : decode cX2_repair 206 = .ok (.iadd, 1) := dk_96 (dk_at dksX2_repair_8 16 rfl rfl)
theorem dX2_repair_207 : decode cX2_repair 207 = .ok (.iaload, 1) := dk_46 (dk_at dksX2_repair_8 17 rfl rfl)
theorem dX2_repair_208 : decode cX2_repair 208 = .ok (.iconst 1, 1) := dk_4 (dk_at dksX2_repair_8 18 rfl rfl)
theorem dX2_repair_209 : decode cX2_repair 209 = .ok (.if_icmp .ne 14, 3) := dk_160 0 14 (dk_at dksX2_repair_8 19 rfl rfl)
theorem dX2_repair_212 : decode cX2_repair 212 = .ok (.aload_n 0, 1) := dk_42 (dk_at dksX2_repair_8 22 rfl rfl)
theorem dX2_repair_213 : decode cX2_repair 213 = .ok (.iload_n 3, 1) := dk_29 (dk_at dksX2_repair_8 23 rfl rfl)
theorem dX2_repair_214 : decode cX2_repair 214 = .ok (.aload_n 0, 1) := dk_42 (dk_at dksX2_repair_9 0 rfl rfl)
theorem dX2_repair_215 : decode cX2_repair 215 = .ok (.getfield 28, 3) := dk_180 0 28 (dk_at dksX2_repair_9 1 rfl rfl)
theorem dX2_repair_218 : decode cX2_repair 218 = .ok (.iload_n 2, 1) := dk_28 (dk_at dksX2_repair_9 4 rfl rfl)
theorem dX2_repair_219 : decode cX2_repair 219 = .ok (.iaload, 1) := dk_46 (dk_at dksX2_repair_9 5 rfl rfl)
theorem dX2_repair_220 : decode cX2_repair 220 = .ok (.invokevirtual 246, 3) := dk_182 0 246 (dk_at dksX2_repair_9 6 rfl rfl)
theorem dX2_repair_223 : decode cX2_repair 223 = .ok (.iinc 3 1, 3) := dk_132 3 1 (dk_at dksX2_repair_9 9 rfl rfl)
theorem dX2_repair_226 : decode cX2_repair 226 = .ok (.goto (-55), 3) := dk_167 255 201 (dk_at dksX2_repair_9 12 rfl rfl)
theorem dX2_repair_229 : decode cX2_repair 229 = .ok (.iinc 2 1, 3) := dk_132 2 1 (dk_at dksX2_repair_9 15 rfl rfl)
theorem dX2_repair_232 : decode cX2_repair 232 = .ok (.goto (-68), 3) := dk_167 255 188 (dk_at dksX2_repair_9 18 rfl rfl)
theorem dX2_repair_235 : decode cX2_repair 235 = .ok (.aload_n 0, 1) := dk_42 (dk_at dksX2_repair_9 21 rfl rfl)
theorem dX2_repair_236 : decode cX2_repair 236 = .ok (.getfield 243, 3) := dk_180 0 243 (dk_at dksX2_repair_10 0 rfl rfl)
theorem dX2_repair_239 : decode cX2_repair 239 = .ok (.ireturn, 1) := dk_172 (dk_at dksX2_repair_10 3 rfl rfl)
abbrev cX2_callFor : ByteArray := prog_12_method_78_code
def yX2_callFor : MethodName := ⟨RX2, "callFor", "(II)V"⟩
def dkwX2_callFor_1 : List UInt8 := [4, 182, 0, 180, 54, 4, 177]
abbrev dktX2_callFor_1 : List UInt8 := dkwX2_callFor_1 ++ []
def dkwX2_callFor_0 : List UInt8 := [42, 28, 182, 0, 218, 62, 42, 180, 0, 31, 7, 27, 104, 6, 96, 29, 79, 29, 155, 0, 12, 42, 29, 28]
abbrev dktX2_callFor_0 : List UInt8 := dkwX2_callFor_0 ++ dktX2_callFor_1
theorem dksX2_callFor_0 : cX2_callFor.data.toList.drop 0 = dktX2_callFor_0 := by decide +kernel
theorem dksX2_callFor_1 : cX2_callFor.data.toList.drop 24 = dktX2_callFor_1 := dk_seg dksX2_callFor_0 24 rfl rfl
theorem dX2_callFor_0 : decode cX2_callFor 0 = .ok (.aload_n 0, 1) := dk_42 (dk_at dksX2_callFor_0 0 rfl rfl)
theorem dX2_callFor_1 : decode cX2_callFor 1 = .ok (.iload_n 2, 1) := dk_28 (dk_at dksX2_callFor_0 1 rfl rfl)
theorem dX2_callFor_2 : decode cX2_callFor 2 = .ok (.invokevirtual 218, 3) := dk_182 0 218 (dk_at dksX2_callFor_0 2 rfl rfl)
theorem dX2_callFor_5 : decode cX2_callFor 5 = .ok (.istore_n 3, 1) := dk_62 (dk_at dksX2_callFor_0 5 rfl rfl)
theorem dX2_callFor_6 : decode cX2_callFor 6 = .ok (.aload_n 0, 1) := dk_42 (dk_at dksX2_callFor_0 6 rfl rfl)
theorem dX2_callFor_7 : decode cX2_callFor 7 = .ok (.getfield 31, 3) := dk_180 0 31 (dk_at dksX2_callFor_0 7 rfl rfl)
theorem dX2_callFor_10 : decode cX2_callFor 10 = .ok (.iconst 4, 1) := dk_7 (dk_at dksX2_callFor_0 10 rfl rfl)
theorem dX2_callFor_11 : decode cX2_callFor 11 = .ok (.iload_n 1, 1) := dk_27 (dk_at dksX2_callFor_0 11 rfl rfl)
theorem dX2_callFor_12 : decode cX2_callFor 12 = .ok (.imul, 1) := dk_104 (dk_at dksX2_callFor_0 12 rfl rfl)
theorem dX2_callFor_13 : decode cX2_callFor 13 = .ok (.iconst 3, 1) := dk_6 (dk_at dksX2_callFor_0 13 rfl rfl)
theorem dX2_callFor_14 : decode cX2_callFor 14 = .ok (.iadd, 1) := dk_96 (dk_at dksX2_callFor_0 14 rfl rfl)
theorem dX2_callFor_15 : decode cX2_callFor 15 = .ok (.iload_n 3, 1) := dk_29 (dk_at dksX2_callFor_0 15 rfl rfl)
theorem dX2_callFor_16 : decode cX2_callFor 16 = .ok (.iastore, 1) := dk_79 (dk_at dksX2_callFor_0 16 rfl rfl)
theorem dX2_callFor_17 : decode cX2_callFor 17 = .ok (.iload_n 3, 1) := dk_29 (dk_at dksX2_callFor_0 17 rfl rfl)
theorem dX2_callFor_18 : decode cX2_callFor 18 = .ok (.ifCond .lt 12, 3) := dk_155 0 12 (dk_at dksX2_callFor_0 18 rfl rfl)
theorem dX2_callFor_21 : decode cX2_callFor 21 = .ok (.aload_n 0, 1) := dk_42 (dk_at dksX2_callFor_0 21 rfl rfl)
theorem dX2_callFor_22 : decode cX2_callFor 22 = .ok (.iload_n 3, 1) := dk_29 (dk_at dksX2_callFor_0 22 rfl rfl)
theorem dX2_callFor_23 : decode cX2_callFor 23 = .ok (.iload_n 2, 1) := dk_28 (dk_at dksX2_callFor_0 23 rfl rfl)
theorem dX2_callFor_24 : decode cX2_callFor 24 = .ok (.iconst 1, 1) := dk_4 (dk_at dksX2_callFor_1 0 rfl rfl)
theorem dX2_callFor_25 : decode cX2_callFor 25 = .ok (.invokevirtual 180, 3) := dk_182 0 180 (dk_at dksX2_callFor_1 1 rfl rfl)
theorem dX2_callFor_28 : decode cX2_callFor 28 = .ok (.istore 4, 2) := dk_54 4 (dk_at dksX2_callFor_1 4 rfl rfl)
theorem dX2_callFor_30 : decode cX2_callFor 30 = .ok (.return_, 1) := dk_177 (dk_at dksX2_callFor_1 6 rfl rfl)
abbrev cX2_repaired : ByteArray := prog_12_method_79_code
def yX2_repaired : MethodName := ⟨RX2, "repaired", "(II)I"⟩
def dkwX2_repaired_1 : List UInt8 := [153, 0, 16, 42, 180, 0, 31, 7, 27, 104, 28, 96, 46, 167, 0, 5, 16, 254, 172]
abbrev dktX2_repaired_1 : List UInt8 := dkwX2_repaired_1 ++ []
def dkwX2_repaired_0 : List UInt8 := [28, 3, 6, 184, 0, 59, 154, 0, 5, 2, 172, 27, 3, 42, 180, 0, 243, 4, 100, 184, 0, 59]
abbrev dktX2_repaired_0 : List UInt8 := dkwX2_repaired_0 ++ dktX2_repaired_1
theorem dksX2_repaired_0 : cX2_repaired.data.toList.drop 0 = dktX2_repaired_0 := by decide +kernel
theorem dksX2_repaired_1 : cX2_repaired.data.toList.drop 22 = dktX2_repaired_1 := dk_seg dksX2_repaired_0 22 rfl rfl
theorem dX2_repaired_0 : decode cX2_repaired 0 = .ok (.iload_n 2, 1) := dk_28 (dk_at dksX2_repaired_0 0 rfl rfl)
theorem dX2_repaired_1 : decode cX2_repaired 1 = .ok (.iconst 0, 1) := dk_3 (dk_at dksX2_repaired_0 1 rfl rfl)
theorem dX2_repaired_2 : decode cX2_repaired 2 = .ok (.iconst 3, 1) := dk_6 (dk_at dksX2_repaired_0 2 rfl rfl)
theorem dX2_repaired_3 : decode cX2_repaired 3 = .ok (.invokestatic 59, 3) := dk_184 0 59 (dk_at dksX2_repaired_0 3 rfl rfl)
theorem dX2_repaired_6 : decode cX2_repaired 6 = .ok (.ifCond .ne 5, 3) := dk_154 0 5 (dk_at dksX2_repaired_0 6 rfl rfl)
theorem dX2_repaired_9 : decode cX2_repaired 9 = .ok (.iconst (-1), 1) := dk_2 (dk_at dksX2_repaired_0 9 rfl rfl)
theorem dX2_repaired_10 : decode cX2_repaired 10 = .ok (.ireturn, 1) := dk_172 (dk_at dksX2_repaired_0 10 rfl rfl)
theorem dX2_repaired_11 : decode cX2_repaired 11 = .ok (.iload_n 1, 1) := dk_27 (dk_at dksX2_repaired_0 11 rfl rfl)
theorem dX2_repaired_12 : decode cX2_repaired 12 = .ok (.iconst 0, 1) := dk_3 (dk_at dksX2_repaired_0 12 rfl rfl)
theorem dX2_repaired_13 : decode cX2_repaired 13 = .ok (.aload_n 0, 1) := dk_42 (dk_at dksX2_repaired_0 13 rfl rfl)
theorem dX2_repaired_14 : decode cX2_repaired 14 = .ok (.getfield 243, 3) := dk_180 0 243 (dk_at dksX2_repaired_0 14 rfl rfl)
theorem dX2_repaired_17 : decode cX2_repaired 17 = .ok (.iconst 1, 1) := dk_4 (dk_at dksX2_repaired_0 17 rfl rfl)
theorem dX2_repaired_18 : decode cX2_repaired 18 = .ok (.isub, 1) := dk_100 (dk_at dksX2_repaired_0 18 rfl rfl)
theorem dX2_repaired_19 : decode cX2_repaired 19 = .ok (.invokestatic 59, 3) := dk_184 0 59 (dk_at dksX2_repaired_0 19 rfl rfl)
theorem dX2_repaired_22 : decode cX2_repaired 22 = .ok (.ifCond .eq 16, 3) := dk_153 0 16 (dk_at dksX2_repaired_1 0 rfl rfl)
theorem dX2_repaired_25 : decode cX2_repaired 25 = .ok (.aload_n 0, 1) := dk_42 (dk_at dksX2_repaired_1 3 rfl rfl)
theorem dX2_repaired_26 : decode cX2_repaired 26 = .ok (.getfield 31, 3) := dk_180 0 31 (dk_at dksX2_repaired_1 4 rfl rfl)
theorem dX2_repaired_29 : decode cX2_repaired 29 = .ok (.iconst 4, 1) := dk_7 (dk_at dksX2_repaired_1 7 rfl rfl)
theorem dX2_repaired_30 : decode cX2_repaired 30 = .ok (.iload_n 1, 1) := dk_27 (dk_at dksX2_repaired_1 8 rfl rfl)
theorem dX2_repaired_31 : decode cX2_repaired 31 = .ok (.imul, 1) := dk_104 (dk_at dksX2_repaired_1 9 rfl rfl)
theorem dX2_repaired_32 : decode cX2_repaired 32 = .ok (.iload_n 2, 1) := dk_28 (dk_at dksX2_repaired_1 10 rfl rfl)
theorem dX2_repaired_33 : decode cX2_repaired 33 = .ok (.iadd, 1) := dk_96 (dk_at dksX2_repaired_1 11 rfl rfl)
theorem dX2_repaired_34 : decode cX2_repaired 34 = .ok (.iaload, 1) := dk_46 (dk_at dksX2_repaired_1 12 rfl rfl)
theorem dX2_repaired_35 : decode cX2_repaired 35 = .ok (.goto 5, 3) := dk_167 0 5 (dk_at dksX2_repaired_1 13 rfl rfl)
theorem dX2_repaired_38 : decode cX2_repaired 38 = .ok (.bipush (-2), 2) := dk_16 254 (dk_at dksX2_repaired_1 16 rfl rfl)
theorem dX2_repaired_40 : decode cX2_repaired 40 = .ok (.ireturn, 1) := dk_172 (dk_at dksX2_repaired_1 18 rfl rfl)
abbrev cX2_bestMinutes : ByteArray := prog_12_method_82_code
def yX2_bestMinutes : MethodName := ⟨RX2, "bestMinutes", "(I)I"⟩
def dkwX2_bestMinutes_1 : List UInt8 := [167, 0, 7, 42, 180, 0, 250, 172]
abbrev dktX2_bestMinutes_1 : List UInt8 := dkwX2_bestMinutes_1 ++ []
def dkwX2_bestMinutes_0 : List UInt8 := [42, 27, 182, 0, 174, 154, 0, 5, 2, 172, 42, 27, 182, 1, 3, 42, 180, 0, 253, 154, 0, 8, 16, 254]
abbrev dktX2_bestMinutes_0 : List UInt8 := dkwX2_bestMinutes_0 ++ dktX2_bestMinutes_1
theorem dksX2_bestMinutes_0 : cX2_bestMinutes.data.toList.drop 0 = dktX2_bestMinutes_0 := by decide +kernel
theorem dksX2_bestMinutes_1 : cX2_bestMinutes.data.toList.drop 24 = dktX2_bestMinutes_1 := dk_seg dksX2_bestMinutes_0 24 rfl rfl
theorem dX2_bestMinutes_0 : decode cX2_bestMinutes 0 = .ok (.aload_n 0, 1) := dk_42 (dk_at dksX2_bestMinutes_0 0 rfl rfl)
theorem dX2_bestMinutes_1 : decode cX2_bestMinutes 1 = .ok (.iload_n 1, 1) := dk_27 (dk_at dksX2_bestMinutes_0 1 rfl rfl)
theorem dX2_bestMinutes_2 : decode cX2_bestMinutes 2 = .ok (.invokevirtual 174, 3) := dk_182 0 174 (dk_at dksX2_bestMinutes_0 2 rfl rfl)
theorem dX2_bestMinutes_5 : decode cX2_bestMinutes 5 = .ok (.ifCond .ne 5, 3) := dk_154 0 5 (dk_at dksX2_bestMinutes_0 5 rfl rfl)
theorem dX2_bestMinutes_8 : decode cX2_bestMinutes 8 = .ok (.iconst (-1), 1) := dk_2 (dk_at dksX2_bestMinutes_0 8 rfl rfl)
theorem dX2_bestMinutes_9 : decode cX2_bestMinutes 9 = .ok (.ireturn, 1) := dk_172 (dk_at dksX2_bestMinutes_0 9 rfl rfl)
theorem dX2_bestMinutes_10 : decode cX2_bestMinutes 10 = .ok (.aload_n 0, 1) := dk_42 (dk_at dksX2_bestMinutes_0 10 rfl rfl)
theorem dX2_bestMinutes_11 : decode cX2_bestMinutes 11 = .ok (.iload_n 1, 1) := dk_27 (dk_at dksX2_bestMinutes_0 11 rfl rfl)
theorem dX2_bestMinutes_12 : decode cX2_bestMinutes 12 = .ok (.invokevirtual 259, 3) := dk_182 1 3 (dk_at dksX2_bestMinutes_0 12 rfl rfl)
theorem dX2_bestMinutes_15 : decode cX2_bestMinutes 15 = .ok (.aload_n 0, 1) := dk_42 (dk_at dksX2_bestMinutes_0 15 rfl rfl)
theorem dX2_bestMinutes_16 : decode cX2_bestMinutes 16 = .ok (.getfield 253, 3) := dk_180 0 253 (dk_at dksX2_bestMinutes_0 16 rfl rfl)
theorem dX2_bestMinutes_19 : decode cX2_bestMinutes 19 = .ok (.ifCond .ne 8, 3) := dk_154 0 8 (dk_at dksX2_bestMinutes_0 19 rfl rfl)
theorem dX2_bestMinutes_22 : decode cX2_bestMinutes 22 = .ok (.bipush (-2), 2) := dk_16 254 (dk_at dksX2_bestMinutes_0 22 rfl rfl)
theorem dX2_bestMinutes_24 : decode cX2_bestMinutes 24 = .ok (.goto 7, 3) := dk_167 0 7 (dk_at dksX2_bestMinutes_1 0 rfl rfl)
theorem dX2_bestMinutes_27 : decode cX2_bestMinutes 27 = .ok (.aload_n 0, 1) := dk_42 (dk_at dksX2_bestMinutes_1 3 rfl rfl)
theorem dX2_bestMinutes_28 : decode cX2_bestMinutes 28 = .ok (.getfield 250, 3) := dk_180 0 250 (dk_at dksX2_bestMinutes_1 4 rfl rfl)
theorem dX2_bestMinutes_31 : decode cX2_bestMinutes 31 = .ok (.ireturn, 1) := dk_172 (dk_at dksX2_bestMinutes_1 7 rfl rfl)
abbrev cX2_findBest : ByteArray := prog_12_method_81_code
def yX2_findBest : MethodName := ⟨RX2, "findBest", "(I)V"⟩
def dkwX2_findBest_0 : List UInt8 := [42, 3, 181, 0, 253, 42, 3, 181, 0, 250, 42, 27, 182, 0, 165, 42, 3, 3, 2, 182, 1, 0, 177]
abbrev dktX2_findBest_0 : List UInt8 := dkwX2_findBest_0 ++ []
theorem dksX2_findBest_0 : cX2_findBest.data.toList.drop 0 = dktX2_findBest_0 := by decide +kernel
theorem dX2_findBest_0 : decode cX2_findBest 0 = .ok (.aload_n 0, 1) := dk_42 (dk_at dksX2_findBest_0 0 rfl rfl)
theorem dX2_findBest_1 : decode cX2_findBest 1 = .ok (.iconst 0, 1) := dk_3 (dk_at dksX2_findBest_0 1 rfl rfl)
theorem dX2_findBest_2 : decode cX2_findBest 2 = .ok (.putfield 253, 3) := dk_181 0 253 (dk_at dksX2_findBest_0 2 rfl rfl)
theorem dX2_findBest_5 : decode cX2_findBest 5 = .ok (.aload_n 0, 1) := dk_42 (dk_at dksX2_findBest_0 5 rfl rfl)
theorem dX2_findBest_6 : decode cX2_findBest 6 = .ok (.iconst 0, 1) := dk_3 (dk_at dksX2_findBest_0 6 rfl rfl)
theorem dX2_findBest_7 : decode cX2_findBest 7 = .ok (.putfield 250, 3) := dk_181 0 250 (dk_at dksX2_findBest_0 7 rfl rfl)
theorem dX2_findBest_10 : decode cX2_findBest 10 = .ok (.aload_n 0, 1) := dk_42 (dk_at dksX2_findBest_0 10 rfl rfl)
theorem dX2_findBest_11 : decode cX2_findBest 11 = .ok (.iload_n 1, 1) := dk_27 (dk_at dksX2_findBest_0 11 rfl rfl)
theorem dX2_findBest_12 : decode cX2_findBest 12 = .ok (.invokevirtual 165, 3) := dk_182 0 165 (dk_at dksX2_findBest_0 12 rfl rfl)
theorem dX2_findBest_15 : decode cX2_findBest 15 = .ok (.aload_n 0, 1) := dk_42 (dk_at dksX2_findBest_0 15 rfl rfl)
theorem dX2_findBest_16 : decode cX2_findBest 16 = .ok (.iconst 0, 1) := dk_3 (dk_at dksX2_findBest_0 16 rfl rfl)
theorem dX2_findBest_17 : decode cX2_findBest 17 = .ok (.iconst 0, 1) := dk_3 (dk_at dksX2_findBest_0 17 rfl rfl)
theorem dX2_findBest_18 : decode cX2_findBest 18 = .ok (.iconst (-1), 1) := dk_2 (dk_at dksX2_findBest_0 18 rfl rfl)
theorem dX2_findBest_19 : decode cX2_findBest 19 = .ok (.invokevirtual 256, 3) := dk_182 1 0 (dk_at dksX2_findBest_0 19 rfl rfl)
theorem dX2_findBest_22 : decode cX2_findBest 22 = .ok (.return_, 1) := dk_177 (dk_at dksX2_findBest_0 22 rfl rfl)
abbrev cX2_search : ByteArray := prog_12_method_80_code
def yX2_search : MethodName := ⟨RX2, "search", "(III)V"⟩
def dkwX2_search_7 : List UInt8 := [132, 4, 1, 167, 255, 152, 177]
abbrev dktX2_search_7 : List UInt8 := dkwX2_search_7 ++ []
def dkwX2_search_6 : List UInt8 := [42, 21, 4, 182, 0, 135, 96, 42, 21, 4, 5, 182, 0, 63, 182, 1, 0, 42, 21, 5, 182, 0, 161]
abbrev dktX2_search_6 : List UInt8 := dkwX2_search_6 ++ dktX2_search_7
def dkwX2_search_5 : List UInt8 := [160, 0, 41, 42, 3, 182, 0, 154, 154, 0, 33, 42, 180, 0, 34, 27, 21, 4, 79, 42, 27, 4, 96, 28]
abbrev dktX2_search_5 : List UInt8 := dkwX2_search_5 ++ dktX2_search_6
def dkwX2_search_4 : List UInt8 := [182, 0, 206, 153, 0, 67, 42, 21, 4, 4, 182, 0, 157, 54, 5, 21, 5, 42, 180, 0, 114, 4, 100]
abbrev dktX2_search_4 : List UInt8 := dkwX2_search_4 ++ dktX2_search_5
def dkwX2_search_3 : List UInt8 := [162, 0, 99, 27, 16, 6, 162, 0, 93, 42, 21, 4, 5, 182, 0, 63, 29, 164, 0, 76, 42, 21, 4]
abbrev dktX2_search_3 : List UInt8 := dkwX2_search_3 ++ dktX2_search_4
def dkwX2_search_2 : List UInt8 := [180, 0, 34, 3, 42, 180, 0, 37, 3, 27, 184, 0, 53, 3, 54, 4, 21, 4, 42, 180, 0, 9, 3, 46]
abbrev dktX2_search_2 : List UInt8 := dkwX2_search_2 ++ dktX2_search_3
def dkwX2_search_1 : List UInt8 := [160, 0, 35, 27, 42, 180, 0, 253, 162, 0, 27, 42, 28, 181, 0, 250, 42, 27, 181, 0, 253, 42]
abbrev dktX2_search_1 : List UInt8 := dkwX2_search_1 ++ dktX2_search_2
def dkwX2_search_0 : List UInt8 := [27, 158, 0, 58, 42, 182, 0, 196, 153, 0, 51, 28, 42, 180, 0, 250, 163, 0, 19, 28, 42, 180, 0, 250]
abbrev dktX2_search_0 : List UInt8 := dkwX2_search_0 ++ dktX2_search_1
theorem dksX2_search_0 : cX2_search.data.toList.drop 0 = dktX2_search_0 := by decide +kernel
theorem dksX2_search_1 : cX2_search.data.toList.drop 24 = dktX2_search_1 := dk_seg dksX2_search_0 24 rfl rfl
theorem dksX2_search_2 : cX2_search.data.toList.drop 46 = dktX2_search_2 := dk_seg dksX2_search_1 22 rfl rfl
theorem dksX2_search_3 : cX2_search.data.toList.drop 70 = dktX2_search_3 := dk_seg dksX2_search_2 24 rfl rfl
theorem dksX2_search_4 : cX2_search.data.toList.drop 93 = dktX2_search_4 := dk_seg dksX2_search_3 23 rfl rfl
theorem dksX2_search_5 : cX2_search.data.toList.drop 116 = dktX2_search_5 := dk_seg dksX2_search_4 23 rfl rfl
theorem dksX2_search_6 : cX2_search.data.toList.drop 140 = dktX2_search_6 := dk_seg dksX2_search_5 24 rfl rfl
theorem dksX2_search_7 : cX2_search.data.toList.drop 163 = dktX2_search_7 := dk_seg dksX2_search_6 23 rfl rfl
theorem dX2_search_0 : decode cX2_search 0 = .ok (.iload_n 1, 1) := dk_27 (dk_at dksX2_search_0 0 rfl rfl)
theorem dX2_search_1 : decode cX2_search 1 = .ok (.ifCond .le 58, 3) := dk_158 0 58 (dk_at dksX2_search_0 1 rfl rfl)
theorem dX2_search_4 : decode cX2_search 4 = .ok (.aload_n 0, 1) := dk_42 (dk_at dksX2_search_0 4 rfl rfl)
theorem dX2_search_5 : decode cX2_search 5 = .ok (.invokevirtual 196, 3) := dk_182 0 196 (dk_at dksX2_search_0 5 rfl rfl)
theorem dX2_search_8 : decode cX2_search 8 = .ok (.ifCond .eq 51, 3) := dk_153 0 51 (dk_at dksX2_search_0 8 rfl rfl)
theorem dX2_search_11 : decode cX2_search 11 = .ok (.iload_n 2, 1) := dk_28 (dk_at dksX2_search_0 11 rfl rfl)
theorem dX2_search_12 : decode cX2_search 12 = .ok (.aload_n 0, 1) := dk_42 (dk_at dksX2_search_0 12 rfl rfl)
theorem dX2_search_13 : decode cX2_search 13 = .ok (.getfield 250, 3) := dk_180 0 250 (dk_at dksX2_search_0 13 rfl rfl)
theorem dX2_search_16 : decode cX2_search 16 = .ok (.if_icmp .gt 19, 3) := dk_163 0 19 (dk_at dksX2_search_0 16 rfl rfl)
theorem dX2_search_19 : decode cX2_search 19 = .ok (.iload_n 2, 1) := dk_28 (dk_at dksX2_search_0 19 rfl rfl)
theorem dX2_search_20 : decode cX2_search 20 = .ok (.aload_n 0, 1) := dk_42 (dk_at dksX2_search_0 20 rfl rfl)
theorem dX2_search_21 : decode cX2_search 21 = .ok (.getfield 250, 3) := dk_180 0 250 (dk_at dksX2_search_0 21 rfl rfl)
theorem dX2_search_24 : decode cX2_search 24 = .ok (.if_icmp .ne 35, 3) := dk_160 0 35 (dk_at dksX2_search_1 0 rfl rfl)
theorem dX2_search_27 : decode cX2_search 27 = .ok (.iload_n 1, 1) := dk_27 (dk_at dksX2_search_1 3 rfl rfl)
theorem dX2_search_28 : decode cX2_search 28 = .ok (.aload_n 0, 1) := dk_42 (dk_at dksX2_search_1 4 rfl rfl)
theorem dX2_search_29 : decode cX2_search 29 = .ok (.getfield 253, 3) := dk_180 0 253 (dk_at dksX2_search_1 5 rfl rfl)
theorem dX2_search_32 : decode cX2_search 32 = .ok (.if_icmp .ge 27, 3) := dk_162 0 27 (dk_at dksX2_search_1 8 rfl rfl)
theorem dX2_search_35 : decode cX2_search 35 = .ok (.aload_n 0, 1) := dk_42 (dk_at dksX2_search_1 11 rfl rfl)
theorem dX2_search_36 : decode cX2_search 36 = .ok (.iload_n 2, 1) := dk_28 (dk_at dksX2_search_1 12 rfl rfl)
theorem dX2_search_37 : decode cX2_search 37 = .ok (.putfield 250, 3) := dk_181 0 250 (dk_at dksX2_search_1 13 rfl rfl)
theorem dX2_search_40 : decode cX2_search 40 = .ok (.aload_n 0, 1) := dk_42 (dk_at dksX2_search_1 16 rfl rfl)
theorem dX2_search_41 : decode cX2_search 41 = .ok (.iload_n 1, 1) := dk_27 (dk_at dksX2_search_1 17 rfl rfl)
theorem dX2_search_42 : decode cX2_search 42 = .ok (.putfield 253, 3) := dk_181 0 253 (dk_at dksX2_search_1 18 rfl rfl)
theorem dX2_search_45 : decode cX2_search 45 = .ok (.aload_n 0, 1) := dk_42 (dk_at dksX2_search_1 21 rfl rfl)
theorem dX2_search_46 : decode cX2_search 46 = .ok (.getfield 34, 3) := dk_180 0 34 (dk_at dksX2_search_2 0 rfl rfl)
theorem dX2_search_49 : decode cX2_search 49 = .ok (.iconst 0, 1) := dk_3 (dk_at dksX2_search_2 3 rfl rfl)
theorem dX2_search_50 : decode cX2_search 50 = .ok (.aload_n 0, 1) := dk_42 (dk_at dksX2_search_2 4 rfl rfl)
theorem dX2_search_51 : decode cX2_search 51 = .ok (.getfield 37, 3) := dk_180 0 37 (dk_at dksX2_search_2 5 rfl rfl)
theorem dX2_search_54 : decode cX2_search 54 = .ok (.iconst 0, 1) := dk_3 (dk_at dksX2_search_2 8 rfl rfl)
theorem dX2_search_55 : decode cX2_search 55 = .ok (.iload_n 1, 1) := dk_27 (dk_at dksX2_search_2 9 rfl rfl)
theorem dX2_search_56 : decode cX2_search 56 = .ok (.invokestatic 53, 3) := dk_184 0 53 (dk_at dksX2_search_2 10 rfl rfl)
theorem dX2_search_59 : decode cX2_search 59 = .ok (.iconst 0, 1) := dk_3 (dk_at dksX2_search_2 13 rfl rfl)
theorem dX2_search_60 : decode cX2_search 60 = .ok (.istore 4, 2) := dk_54 4 (dk_at dksX2_search_2 14 rfl rfl)
theorem dX2_search_62 : decode cX2_search 62 = .ok (.iload 4, 2) := dk_21 4 (dk_at dksX2_search_2 16 rfl rfl)
theorem dX2_search_64 : decode cX2_search 64 = .ok (.aload_n 0, 1) := dk_42 (dk_at dksX2_search_2 18 rfl rfl)
theorem dX2_search_65 : decode cX2_search 65 = .ok (.getfield 9, 3) := dk_180 0 9 (dk_at dksX2_search_2 19 rfl rfl)
theorem dX2_search_68 : decode cX2_search 68 = .ok (.iconst 0, 1) := dk_3 (dk_at dksX2_search_2 22 rfl rfl)
theorem dX2_search_69 : decode cX2_search 69 = .ok (.iaload, 1) := dk_46 (dk_at dksX2_search_2 23 rfl rfl)
theorem dX2_search_70 : decode cX2_search 70 = .ok (.if_icmp .ge 99, 3) := dk_162 0 99 (dk_at dksX2_search_3 0 rfl rfl)
theorem dX2_search_73 : decode cX2_search 73 = .ok (.iload_n 1, 1) := dk_27 (dk_at dksX2_search_3 3 rfl rfl)
theorem dX2_search_74 : decode cX2_search 74 = .ok (.bipush 6, 2) := dk_16 6 (dk_at dksX2_search_3 4 rfl rfl)
theorem dX2_search_76 : decode cX2_search 76 = .ok (.if_icmp .ge 93, 3) := dk_162 0 93 (dk_at dksX2_search_3 6 rfl rfl)
theorem dX2_search_79 : decode cX2_search 79 = .ok (.aload_n 0, 1) := dk_42 (dk_at dksX2_search_3 9 rfl rfl)
theorem dX2_search_80 : decode cX2_search 80 = .ok (.iload 4, 2) := dk_21 4 (dk_at dksX2_search_3 10 rfl rfl)
theorem dX2_search_82 : decode cX2_search 82 = .ok (.iconst 2, 1) := dk_5 (dk_at dksX2_search_3 12 rfl rfl)
theorem dX2_search_83 : decode cX2_search 83 = .ok (.invokevirtual 63, 3) := dk_182 0 63 (dk_at dksX2_search_3 13 rfl rfl)
theorem dX2_search_86 : decode cX2_search 86 = .ok (.iload_n 3, 1) := dk_29 (dk_at dksX2_search_3 16 rfl rfl)
theorem dX2_search_87 : decode cX2_search 87 = .ok (.if_icmp .le 76, 3) := dk_164 0 76 (dk_at dksX2_search_3 17 rfl rfl)
theorem dX2_search_90 : decode cX2_search 90 = .ok (.aload_n 0, 1) := dk_42 (dk_at dksX2_search_3 20 rfl rfl)
theorem dX2_search_91 : decode cX2_search 91 = .ok (.iload 4, 2) := dk_21 4 (dk_at dksX2_search_3 21 rfl rfl)
theorem dX2_search_93 : decode cX2_search 93 = .ok (.invokevirtual 206, 3) := dk_182 0 206 (dk_at dksX2_search_4 0 rfl rfl)
theorem dX2_search_96 : decode cX2_search 96 = .ok (.ifCond .eq 67, 3) := dk_153 0 67 (dk_at dksX2_search_4 3 rfl rfl)
theorem dX2_search_99 : decode cX2_search 99 = .ok (.aload_n 0, 1) := dk_42 (dk_at dksX2_search_4 6 rfl rfl)
theorem dX2_search_100 : decode cX2_search 100 = .ok (.iload 4, 2) := dk_21 4 (dk_at dksX2_search_4 7 rfl rfl)
theorem dX2_search_102 : decode cX2_search 102 = .ok (.iconst 1, 1) := dk_4 (dk_at dksX2_search_4 9 rfl rfl)
theorem dX2_search_103 : decode cX2_search 103 = .ok (.invokevirtual 157, 3) := dk_182 0 157 (dk_at dksX2_search_4 10 rfl rfl)
theorem dX2_search_106 : decode cX2_search 106 = .ok (.istore 5, 2) := dk_54 5 (dk_at dksX2_search_4 13 rfl rfl)
theorem dX2_search_108 : decode cX2_search 108 = .ok (.iload 5, 2) := dk_21 5 (dk_at dksX2_search_4 15 rfl rfl)
theorem dX2_search_110 : decode cX2_search 110 = .ok (.aload_n 0, 1) := dk_42 (dk_at dksX2_search_4 17 rfl rfl)
theorem dX2_search_111 : decode cX2_search 111 = .ok (.getfield 114, 3) := dk_180 0 114 (dk_at dksX2_search_4 18 rfl rfl)
theorem dX2_search_114 : decode cX2_search 114 = .ok (.iconst 1, 1) := dk_4 (dk_at dksX2_search_4 21 rfl rfl)
theorem dX2_search_115 : decode cX2_search 115 = .ok (.isub, 1) := dk_100 (dk_at dksX2_search_4 22 rfl rfl)
theorem dX2_search_116 : decode cX2_search 116 = .ok (.if_icmp .ne 41, 3) := dk_160 0 41 (dk_at dksX2_search_5 0 rfl rfl)
theorem dX2_search_119 : decode cX2_search 119 = .ok (.aload_n 0, 1) := dk_42 (dk_at dksX2_search_5 3 rfl rfl)
theorem dX2_search_120 : decode cX2_search 120 = .ok (.iconst 0, 1) := dk_3 (dk_at dksX2_search_5 4 rfl rfl)
theorem dX2_search_121 : decode cX2_search 121 = .ok (.invokevirtual 154, 3) := dk_182 0 154 (dk_at dksX2_search_5 5 rfl rfl)
theorem dX2_search_124 : decode cX2_search 124 = .ok (.ifCond .ne 33, 3) := dk_154 0 33 (dk_at dksX2_search_5 8 rfl rfl)
theorem dX2_search_127 : decode cX2_search 127 = .ok (.aload_n 0, 1) := dk_42 (dk_at dksX2_search_5 11 rfl rfl)
theorem dX2_search_128 : decode cX2_search 128 = .ok (.getfield 34, 3) := dk_180 0 34 (dk_at dksX2_search_5 12 rfl rfl)
theorem dX2_search_131 : decode cX2_search 131 = .ok (.iload_n 1, 1) := dk_27 (dk_at dksX2_search_5 15 rfl rfl)
theorem dX2_search_132 : decode cX2_search 132 = .ok (.iload 4, 2) := dk_21 4 (dk_at dksX2_search_5 16 rfl rfl)
theorem dX2_search_134 : decode cX2_search 134 = .ok (.iastore, 1) := dk_79 (dk_at dksX2_search_5 18 rfl rfl)
theorem dX2_search_135 : decode cX2_search 135 = .ok (.aload_n 0, 1) := dk_42 (dk_at dksX2_search_5 19 rfl rfl)
theorem dX2_search_136 : decode cX2_search 136 = .ok (.iload_n 1, 1) := dk_27 (dk_at dksX2_search_5 20 rfl rfl)
theorem dX2_search_137 : decode cX2_search 137 = .ok (.iconst 1, 1) := dk_4 (dk_at dksX2_search_5 21 rfl rfl)
theorem dX2_search_138 : decode cX2_search 138 = .ok (.iadd, 1) := dk_96 (dk_at dksX2_search_5 22 rfl rfl)
theorem dX2_search_139 : decode cX2_search 139 = .ok (.iload_n 2, 1) := dk_28 (dk_at dksX2_search_5 23 rfl rfl)
theorem dX2_search_140 : decode cX2_search 140 = .ok (.aload_n 0, 1) := dk_42 (dk_at dksX2_search_6 0 rfl rfl)
theorem dX2_search_141 : decode cX2_search 141 = .ok (.iload 4, 2) := dk_21 4 (dk_at dksX2_search_6 1 rfl rfl)
theorem dX2_search_143 : decode cX2_search 143 = .ok (.invokevirtual 135, 3) := dk_182 0 135 (dk_at dksX2_search_6 3 rfl rfl)
theorem dX2_search_146 : decode cX2_search 146 = .ok (.iadd, 1) := dk_96 (dk_at dksX2_search_6 6 rfl rfl)
theorem dX2_search_147 : decode cX2_search 147 = .ok (.aload_n 0, 1) := dk_42 (dk_at dksX2_search_6 7 rfl rfl)
theorem dX2_search_148 : decode cX2_search 148 = .ok (.iload 4, 2) := dk_21 4 (dk_at dksX2_search_6 8 rfl rfl)
theorem dX2_search_150 : decode cX2_search 150 = .ok (.iconst 2, 1) := dk_5 (dk_at dksX2_search_6 10 rfl rfl)
theorem dX2_search_151 : decode cX2_search 151 = .ok (.invokevirtual 63, 3) := dk_182 0 63 (dk_at dksX2_search_6 11 rfl rfl)
theorem dX2_search_154 : decode cX2_search 154 = .ok (.invokevirtual 256, 3) := dk_182 1 0 (dk_at dksX2_search_6 14 rfl rfl)
theorem dX2_search_157 : decode cX2_search 157 = .ok (.aload_n 0, 1) := dk_42 (dk_at dksX2_search_6 17 rfl rfl)
theorem dX2_search_158 : decode cX2_search 158 = .ok (.iload 5, 2) := dk_21 5 (dk_at dksX2_search_6 18 rfl rfl)
theorem dX2_search_160 : decode cX2_search 160 = .ok (.invokevirtual 161, 3) := dk_182 0 161 (dk_at dksX2_search_6 20 rfl rfl)
theorem dX2_search_163 : decode cX2_search 163 = .ok (.iinc 4 1, 3) := dk_132 4 1 (dk_at dksX2_search_7 0 rfl rfl)
theorem dX2_search_166 : decode cX2_search 166 = .ok (.goto (-104), 3) := dk_167 255 152 (dk_at dksX2_search_7 3 rfl rfl)
theorem dX2_search_169 : decode cX2_search 169 = .ok (.return_, 1) := dk_177 (dk_at dksX2_search_7 6 rfl rfl)
abbrev cX2_bestLeg : ByteArray := prog_12_method_83_code
def yX2_bestLeg : MethodName := ⟨RX2, "bestLeg", "(II)I"⟩
def dkwX2_bestLeg_2 : List UInt8 := [184, 0, 59, 153, 0, 12, 42, 180, 0, 37, 28, 46, 167, 0, 5, 16, 254, 172]
abbrev dktX2_bestLeg_2 : List UInt8 := dkwX2_bestLeg_2 ++ []
def dkwX2_bestLeg_1 : List UInt8 := [167, 0, 40, 28, 2, 160, 0, 10, 42, 180, 0, 253, 167, 0, 28, 28, 3, 42, 180, 0, 253, 4, 100]
abbrev dktX2_bestLeg_1 : List UInt8 := dkwX2_bestLeg_1 ++ dktX2_bestLeg_2
def dkwX2_bestLeg_0 : List UInt8 := [42, 27, 182, 0, 174, 154, 0, 5, 2, 172, 42, 27, 182, 1, 3, 42, 180, 0, 253, 154, 0, 8, 16, 254]
abbrev dktX2_bestLeg_0 : List UInt8 := dkwX2_bestLeg_0 ++ dktX2_bestLeg_1
theorem dksX2_bestLeg_0 : cX2_bestLeg.data.toList.drop 0 = dktX2_bestLeg_0 := by decide +kernel
theorem dksX2_bestLeg_1 : cX2_bestLeg.data.toList.drop 24 = dktX2_bestLeg_1 := dk_seg dksX2_bestLeg_0 24 rfl rfl
theorem dksX2_bestLeg_2 : cX2_bestLeg.data.toList.drop 47 = dktX2_bestLeg_2 := dk_seg dksX2_bestLeg_1 23 rfl rfl
theorem dX2_bestLeg_0 : decode cX2_bestLeg 0 = .ok (.aload_n 0, 1) := dk_42 (dk_at dksX2_bestLeg_0 0 rfl rfl)
theorem dX2_bestLeg_1 : decode cX2_bestLeg 1 = .ok (.iload_n 1, 1) := dk_27 (dk_at dksX2_bestLeg_0 1 rfl rfl)
theorem dX2_bestLeg_2 : decode cX2_bestLeg 2 = .ok (.invokevirtual 174, 3) := dk_182 0 174 (dk_at dksX2_bestLeg_0 2 rfl rfl)
theorem dX2_bestLeg_5 : decode cX2_bestLeg 5 = .ok (.ifCond .ne 5, 3) := dk_154 0 5 (dk_at dksX2_bestLeg_0 5 rfl rfl)
theorem dX2_bestLeg_8 : decode cX2_bestLeg 8 = .ok (.iconst (-1), 1) := dk_2 (dk_at dksX2_bestLeg_0 8 rfl rfl)
theorem dX2_bestLeg_9 : decode cX2_bestLeg 9 = .ok (.ireturn, 1) := dk_172 (dk_at dksX2_bestLeg_0 9 rfl rfl)
theorem dX2_bestLeg_10 : decode cX2_bestLeg 10 = .ok (.aload_n 0, 1) := dk_42 (dk_at dksX2_bestLeg_0 10 rfl rfl)
theorem dX2_bestLeg_11 : decode cX2_bestLeg 11 = .ok (.iload_n 1, 1) := dk_27 (dk_at dksX2_bestLeg_0 11 rfl rfl)
theorem dX2_bestLeg_12 : decode cX2_bestLeg 12 = .ok (.invokevirtual 259, 3) := dk_182 1 3 (dk_at dksX2_bestLeg_0 12 rfl rfl)
theorem dX2_bestLeg_15 : decode cX2_bestLeg 15 = .ok (.aload_n 0, 1) := dk_42 (dk_at dksX2_bestLeg_0 15 rfl rfl)
theorem dX2_bestLeg_16 : decode cX2_bestLeg 16 = .ok (.getfield 253, 3) := dk_180 0 253 (dk_at dksX2_bestLeg_0 16 rfl rfl)
theorem dX2_bestLeg_19 : decode cX2_bestLeg 19 = .ok (.ifCond .ne 8, 3) := dk_154 0 8 (dk_at dksX2_bestLeg_0 19 rfl rfl)
theorem dX2_bestLeg_22 : decode cX2_bestLeg 22 = .ok (.bipush (-2), 2) := dk_16 254 (dk_at dksX2_bestLeg_0 22 rfl rfl)
theorem dX2_bestLeg_24 : decode cX2_bestLeg 24 = .ok (.goto 40, 3) := dk_167 0 40 (dk_at dksX2_bestLeg_1 0 rfl rfl)
theorem dX2_bestLeg_27 : decode cX2_bestLeg 27 = .ok (.iload_n 2, 1) := dk_28 (dk_at dksX2_bestLeg_1 3 rfl rfl)
theorem dX2_bestLeg_28 : decode cX2_bestLeg 28 = .ok (.iconst (-1), 1) := dk_2 (dk_at dksX2_bestLeg_1 4 rfl rfl)
theorem dX2_bestLeg_29 : decode cX2_bestLeg 29 = .ok (.if_icmp .ne 10, 3) := dk_160 0 10 (dk_at dksX2_bestLeg_1 5 rfl rfl)
theorem dX2_bestLeg_32 : decode cX2_bestLeg 32 = .ok (.aload_n 0, 1) := dk_42 (dk_at dksX2_bestLeg_1 8 rfl rfl)
theorem dX2_bestLeg_33 : decode cX2_bestLeg 33 = .ok (.getfield 253, 3) := dk_180 0 253 (dk_at dksX2_bestLeg_1 9 rfl rfl)
theorem dX2_bestLeg_36 : decode cX2_bestLeg 36 = .ok (.goto 28, 3) := dk_167 0 28 (dk_at dksX2_bestLeg_1 12 rfl rfl)
theorem dX2_bestLeg_39 : decode cX2_bestLeg 39 = .ok (.iload_n 2, 1) := dk_28 (dk_at dksX2_bestLeg_1 15 rfl rfl)
theorem dX2_bestLeg_40 : decode cX2_bestLeg 40 = .ok (.iconst 0, 1) := dk_3 (dk_at dksX2_bestLeg_1 16 rfl rfl)
theorem dX2_bestLeg_41 : decode cX2_bestLeg 41 = .ok (.aload_n 0, 1) := dk_42 (dk_at dksX2_bestLeg_1 17 rfl rfl)
theorem dX2_bestLeg_42 : decode cX2_bestLeg 42 = .ok (.getfield 253, 3) := dk_180 0 253 (dk_at dksX2_bestLeg_1 18 rfl rfl)
theorem dX2_bestLeg_45 : decode cX2_bestLeg 45 = .ok (.iconst 1, 1) := dk_4 (dk_at dksX2_bestLeg_1 21 rfl rfl)
theorem dX2_bestLeg_46 : decode cX2_bestLeg 46 = .ok (.isub, 1) := dk_100 (dk_at dksX2_bestLeg_1 22 rfl rfl)
theorem dX2_bestLeg_47 : decode cX2_bestLeg 47 = .ok (.invokestatic 59, 3) := dk_184 0 59 (dk_at dksX2_bestLeg_2 0 rfl rfl)
theorem dX2_bestLeg_50 : decode cX2_bestLeg 50 = .ok (.ifCond .eq 12, 3) := dk_153 0 12 (dk_at dksX2_bestLeg_2 3 rfl rfl)
theorem dX2_bestLeg_53 : decode cX2_bestLeg 53 = .ok (.aload_n 0, 1) := dk_42 (dk_at dksX2_bestLeg_2 6 rfl rfl)
theorem dX2_bestLeg_54 : decode cX2_bestLeg 54 = .ok (.getfield 37, 3) := dk_180 0 37 (dk_at dksX2_bestLeg_2 7 rfl rfl)
theorem dX2_bestLeg_57 : decode cX2_bestLeg 57 = .ok (.iload_n 2, 1) := dk_28 (dk_at dksX2_bestLeg_2 10 rfl rfl)
theorem dX2_bestLeg_58 : decode cX2_bestLeg 58 = .ok (.iaload, 1) := dk_46 (dk_at dksX2_bestLeg_2 11 rfl rfl)
theorem dX2_bestLeg_59 : decode cX2_bestLeg 59 = .ok (.goto 5, 3) := dk_167 0 5 (dk_at dksX2_bestLeg_2 12 rfl rfl)
theorem dX2_bestLeg_62 : decode cX2_bestLeg 62 = .ok (.bipush (-2), 2) := dk_16 254 (dk_at dksX2_bestLeg_2 15 rfl rfl)
theorem dX2_bestLeg_64 : decode cX2_bestLeg 64 = .ok (.ireturn, 1) := dk_172 (dk_at dksX2_bestLeg_2 17 rfl rfl)
abbrev cX2_takeBest : ByteArray := prog_12_method_84_code
def yX2_takeBest : MethodName := ⟨RX2, "takeBest", "(I)I"⟩
def dkwX2_takeBest_2 : List UInt8 := [182, 0, 180, 62, 132, 2, 1, 167, 255, 232, 42, 180, 0, 253, 172]
abbrev dktX2_takeBest_2 : List UInt8 := dkwX2_takeBest_2 ++ []
def dkwX2_takeBest_1 : List UInt8 := [172, 42, 182, 0, 88, 3, 61, 28, 42, 180, 0, 253, 162, 0, 22, 42, 27, 42, 180, 0, 37, 28, 46, 4]
abbrev dktX2_takeBest_1 : List UInt8 := dkwX2_takeBest_1 ++ dktX2_takeBest_2
def dkwX2_takeBest_0 : List UInt8 := [42, 27, 182, 0, 174, 154, 0, 5, 2, 172, 42, 27, 182, 1, 3, 42, 180, 0, 253, 154, 0, 6, 16, 254]
abbrev dktX2_takeBest_0 : List UInt8 := dkwX2_takeBest_0 ++ dktX2_takeBest_1
theorem dksX2_takeBest_0 : cX2_takeBest.data.toList.drop 0 = dktX2_takeBest_0 := by decide +kernel
theorem dksX2_takeBest_1 : cX2_takeBest.data.toList.drop 24 = dktX2_takeBest_1 := dk_seg dksX2_takeBest_0 24 rfl rfl
theorem dksX2_takeBest_2 : cX2_takeBest.data.toList.drop 48 = dktX2_takeBest_2 := dk_seg dksX2_takeBest_1 24 rfl rfl
theorem dX2_takeBest_0 : decode cX2_takeBest 0 = .ok (.aload_n 0, 1) := dk_42 (dk_at dksX2_takeBest_0 0 rfl rfl)
theorem dX2_takeBest_1 : decode cX2_takeBest 1 = .ok (.iload_n 1, 1) := dk_27 (dk_at dksX2_takeBest_0 1 rfl rfl)
theorem dX2_takeBest_2 : decode cX2_takeBest 2 = .ok (.invokevirtual 174, 3) := dk_182 0 174 (dk_at dksX2_takeBest_0 2 rfl rfl)
theorem dX2_takeBest_5 : decode cX2_takeBest 5 = .ok (.ifCond .ne 5, 3) := dk_154 0 5 (dk_at dksX2_takeBest_0 5 rfl rfl)
theorem dX2_takeBest_8 : decode cX2_takeBest 8 = .ok (.iconst (-1), 1) := dk_2 (dk_at dksX2_takeBest_0 8 rfl rfl)
theorem dX2_takeBest_9 : decode cX2_takeBest 9 = .ok (.ireturn, 1) := dk_172 (dk_at dksX2_takeBest_0 9 rfl rfl)
theorem dX2_takeBest_10 : decode cX2_takeBest 10 = .ok (.aload_n 0, 1) := dk_42 (dk_at dksX2_takeBest_0 10 rfl rfl)
theorem dX2_takeBest_11 : decode cX2_takeBest 11 = .ok (.iload_n 1, 1) := dk_27 (dk_at dksX2_takeBest_0 11 rfl rfl)
theorem dX2_takeBest_12 : decode cX2_takeBest 12 = .ok (.invokevirtual 259, 3) := dk_182 1 3 (dk_at dksX2_takeBest_0 12 rfl rfl)
theorem dX2_takeBest_15 : decode cX2_takeBest 15 = .ok (.aload_n 0, 1) := dk_42 (dk_at dksX2_takeBest_0 15 rfl rfl)
theorem dX2_takeBest_16 : decode cX2_takeBest 16 = .ok (.getfield 253, 3) := dk_180 0 253 (dk_at dksX2_takeBest_0 16 rfl rfl)
theorem dX2_takeBest_19 : decode cX2_takeBest 19 = .ok (.ifCond .ne 6, 3) := dk_154 0 6 (dk_at dksX2_takeBest_0 19 rfl rfl)
theorem dX2_takeBest_22 : decode cX2_takeBest 22 = .ok (.bipush (-2), 2) := dk_16 254 (dk_at dksX2_takeBest_0 22 rfl rfl)
theorem dX2_takeBest_24 : decode cX2_takeBest 24 = .ok (.ireturn, 1) := dk_172 (dk_at dksX2_takeBest_1 0 rfl rfl)
theorem dX2_takeBest_25 : decode cX2_takeBest 25 = .ok (.aload_n 0, 1) := dk_42 (dk_at dksX2_takeBest_1 1 rfl rfl)
theorem dX2_takeBest_26 : decode cX2_takeBest 26 = .ok (.invokevirtual 88, 3) := dk_182 0 88 (dk_at dksX2_takeBest_1 2 rfl rfl)
theorem dX2_takeBest_29 : decode cX2_takeBest 29 = .ok (.iconst 0, 1) := dk_3 (dk_at dksX2_takeBest_1 5 rfl rfl)
theorem dX2_takeBest_30 : decode cX2_takeBest 30 = .ok (.istore_n 2, 1) := dk_61 (dk_at dksX2_takeBest_1 6 rfl rfl)
theorem dX2_takeBest_31 : decode cX2_takeBest 31 = .ok (.iload_n 2, 1) := dk_28 (dk_at dksX2_takeBest_1 7 rfl rfl)
theorem dX2_takeBest_32 : decode cX2_takeBest 32 = .ok (.aload_n 0, 1) := dk_42 (dk_at dksX2_takeBest_1 8 rfl rfl)
theorem dX2_takeBest_33 : decode cX2_takeBest 33 = .ok (.getfield 253, 3) := dk_180 0 253 (dk_at dksX2_takeBest_1 9 rfl rfl)
theorem dX2_takeBest_36 : decode cX2_takeBest 36 = .ok (.if_icmp .ge 22, 3) := dk_162 0 22 (dk_at dksX2_takeBest_1 12 rfl rfl)
theorem dX2_takeBest_39 : decode cX2_takeBest 39 = .ok (.aload_n 0, 1) := dk_42 (dk_at dksX2_takeBest_1 15 rfl rfl)
theorem dX2_takeBest_40 : decode cX2_takeBest 40 = .ok (.iload_n 1, 1) := dk_27 (dk_at dksX2_takeBest_1 16 rfl rfl)
theorem dX2_takeBest_41 : decode cX2_takeBest 41 = .ok (.aload_n 0, 1) := dk_42 (dk_at dksX2_takeBest_1 17 rfl rfl)
theorem dX2_takeBest_42 : decode cX2_takeBest 42 = .ok (.getfield 37, 3) := dk_180 0 37 (dk_at dksX2_takeBest_1 18 rfl rfl)
theorem dX2_takeBest_45 : decode cX2_takeBest 45 = .ok (.iload_n 2, 1) := dk_28 (dk_at dksX2_takeBest_1 21 rfl rfl)
theorem dX2_takeBest_46 : decode cX2_takeBest 46 = .ok (.iaload, 1) := dk_46 (dk_at dksX2_takeBest_1 22 rfl rfl)
theorem dX2_takeBest_47 : decode cX2_takeBest 47 = .ok (.iconst 1, 1) := dk_4 (dk_at dksX2_takeBest_1 23 rfl rfl)
theorem dX2_takeBest_48 : decode cX2_takeBest 48 = .ok (.invokevirtual 180, 3) := dk_182 0 180 (dk_at dksX2_takeBest_2 0 rfl rfl)
theorem dX2_takeBest_51 : decode cX2_takeBest 51 = .ok (.istore_n 3, 1) := dk_62 (dk_at dksX2_takeBest_2 3 rfl rfl)
theorem dX2_takeBest_52 : decode cX2_takeBest 52 = .ok (.iinc 2 1, 3) := dk_132 2 1 (dk_at dksX2_takeBest_2 4 rfl rfl)
theorem dX2_takeBest_55 : decode cX2_takeBest 55 = .ok (.goto (-24), 3) := dk_167 255 232 (dk_at dksX2_takeBest_2 7 rfl rfl)
theorem dX2_takeBest_58 : decode cX2_takeBest 58 = .ok (.aload_n 0, 1) := dk_42 (dk_at dksX2_takeBest_2 10 rfl rfl)
theorem dX2_takeBest_59 : decode cX2_takeBest 59 = .ok (.getfield 253, 3) := dk_180 0 253 (dk_at dksX2_takeBest_2 11 rfl rfl)
theorem dX2_takeBest_62 : decode cX2_takeBest 62 = .ok (.ireturn, 1) := dk_172 (dk_at dksX2_takeBest_2 14 rfl rfl)
abbrev cX2_letter : ByteArray := prog_12_method_89_code
def yX2_letter : MethodName := ⟨RX2, "letter", "(II)I"⟩
def dkwX2_letter_3 : List UInt8 := [28, 52, 167, 0, 5, 16, 254, 172]
abbrev dktX2_letter_3 : List UInt8 := dkwX2_letter_3 ++ []
def dkwX2_letter_2 : List UInt8 := [180, 1, 6, 167, 0, 28, 28, 3, 42, 180, 1, 6, 4, 100, 184, 0, 59, 153, 0, 12, 42, 180, 0, 40]
abbrev dktX2_letter_2 : List UInt8 := dkwX2_letter_2 ++ dktX2_letter_3
def dkwX2_letter_1 : List UInt8 := [180, 0, 114, 162, 0, 14, 42, 29, 182, 1, 31, 132, 3, 1, 167, 255, 240, 28, 2, 160, 0, 10, 42]
abbrev dktX2_letter_1 : List UInt8 := dkwX2_letter_1 ++ dktX2_letter_2
def dkwX2_letter_0 : List UInt8 := [42, 27, 182, 0, 174, 154, 0, 5, 2, 172, 42, 27, 182, 0, 165, 42, 3, 181, 1, 6, 3, 62, 29, 42]
abbrev dktX2_letter_0 : List UInt8 := dkwX2_letter_0 ++ dktX2_letter_1
theorem dksX2_letter_0 : cX2_letter.data.toList.drop 0 = dktX2_letter_0 := by decide +kernel
theorem dksX2_letter_1 : cX2_letter.data.toList.drop 24 = dktX2_letter_1 := dk_seg dksX2_letter_0 24 rfl rfl
theorem dksX2_letter_2 : cX2_letter.data.toList.drop 47 = dktX2_letter_2 := dk_seg dksX2_letter_1 23 rfl rfl
theorem dksX2_letter_3 : cX2_letter.data.toList.drop 71 = dktX2_letter_3 := dk_seg dksX2_letter_2 24 rfl rfl
theorem dX2_letter_0 : decode cX2_letter 0 = .ok (.aload_n 0, 1) := dk_42 (dk_at dksX2_letter_0 0 rfl rfl)
theorem dX2_letter_1 : decode cX2_letter 1 = .ok (.iload_n 1, 1) := dk_27 (dk_at dksX2_letter_0 1 rfl rfl)
theorem dX2_letter_2 : decode cX2_letter 2 = .ok (.invokevirtual 174, 3) := dk_182 0 174 (dk_at dksX2_letter_0 2 rfl rfl)
theorem dX2_letter_5 : decode cX2_letter 5 = .ok (.ifCond .ne 5, 3) := dk_154 0 5 (dk_at dksX2_letter_0 5 rfl rfl)
theorem dX2_letter_8 : decode cX2_letter 8 = .ok (.iconst (-1), 1) := dk_2 (dk_at dksX2_letter_0 8 rfl rfl)
theorem dX2_letter_9 : decode cX2_letter 9 = .ok (.ireturn, 1) := dk_172 (dk_at dksX2_letter_0 9 rfl rfl)
theorem dX2_letter_10 : decode cX2_letter 10 = .ok (.aload_n 0, 1) := dk_42 (dk_at dksX2_letter_0 10 rfl rfl)
theorem dX2_letter_11 : decode cX2_letter 11 = .ok (.iload_n 1, 1) := dk_27 (dk_at dksX2_letter_0 11 rfl rfl)
theorem dX2_letter_12 : decode cX2_letter 12 = .ok (.invokevirtual 165, 3) := dk_182 0 165 (dk_at dksX2_letter_0 12 rfl rfl)
theorem dX2_letter_15 : decode cX2_letter 15 = .ok (.aload_n 0, 1) := dk_42 (dk_at dksX2_letter_0 15 rfl rfl)
theorem dX2_letter_16 : decode cX2_letter 16 = .ok (.iconst 0, 1) := dk_3 (dk_at dksX2_letter_0 16 rfl rfl)
theorem dX2_letter_17 : decode cX2_letter 17 = .ok (.putfield 262, 3) := dk_181 1 6 (dk_at dksX2_letter_0 17 rfl rfl)
theorem dX2_letter_20 : decode cX2_letter 20 = .ok (.iconst 0, 1) := dk_3 (dk_at dksX2_letter_0 20 rfl rfl)
theorem dX2_letter_21 : decode cX2_letter 21 = .ok (.istore_n 3, 1) := dk_62 (dk_at dksX2_letter_0 21 rfl rfl)
theorem dX2_letter_22 : decode cX2_letter 22 = .ok (.iload_n 3, 1) := dk_29 (dk_at dksX2_letter_0 22 rfl rfl)
theorem dX2_letter_23 : decode cX2_letter 23 = .ok (.aload_n 0, 1) := dk_42 (dk_at dksX2_letter_0 23 rfl rfl)
theorem dX2_letter_24 : decode cX2_letter 24 = .ok (.getfield 114, 3) := dk_180 0 114 (dk_at dksX2_letter_1 0 rfl rfl)
theorem dX2_letter_27 : decode cX2_letter 27 = .ok (.if_icmp .ge 14, 3) := dk_162 0 14 (dk_at dksX2_letter_1 3 rfl rfl)
theorem dX2_letter_30 : decode cX2_letter 30 = .ok (.aload_n 0, 1) := dk_42 (dk_at dksX2_letter_1 6 rfl rfl)
theorem dX2_letter_31 : decode cX2_letter 31 = .ok (.iload_n 3, 1) := dk_29 (dk_at dksX2_letter_1 7 rfl rfl)
theorem dX2_letter_32 : decode cX2_letter 32 = .ok (.invokevirtual 287, 3) := dk_182 1 31 (dk_at dksX2_letter_1 8 rfl rfl)
theorem dX2_letter_35 : decode cX2_letter 35 = .ok (.iinc 3 1, 3) := dk_132 3 1 (dk_at dksX2_letter_1 11 rfl rfl)
theorem dX2_letter_38 : decode cX2_letter 38 = .ok (.goto (-16), 3) := dk_167 255 240 (dk_at dksX2_letter_1 14 rfl rfl)
theorem dX2_letter_41 : decode cX2_letter 41 = .ok (.iload_n 2, 1) := dk_28 (dk_at dksX2_letter_1 17 rfl rfl)
theorem dX2_letter_42 : decode cX2_letter 42 = .ok (.iconst (-1), 1) := dk_2 (dk_at dksX2_letter_1 18 rfl rfl)
theorem dX2_letter_43 : decode cX2_letter 43 = .ok (.if_icmp .ne 10, 3) := dk_160 0 10 (dk_at dksX2_letter_1 19 rfl rfl)
theorem dX2_letter_46 : decode cX2_letter 46 = .ok (.aload_n 0, 1) := dk_42 (dk_at dksX2_letter_1 22 rfl rfl)
theorem dX2_letter_47 : decode cX2_letter 47 = .ok (.getfield 262, 3) := dk_180 1 6 (dk_at dksX2_letter_2 0 rfl rfl)
theorem dX2_letter_50 : decode cX2_letter 50 = .ok (.goto 28, 3) := dk_167 0 28 (dk_at dksX2_letter_2 3 rfl rfl)
theorem dX2_letter_53 : decode cX2_letter 53 = .ok (.iload_n 2, 1) := dk_28 (dk_at dksX2_letter_2 6 rfl rfl)
theorem dX2_letter_54 : decode cX2_letter 54 = .ok (.iconst 0, 1) := dk_3 (dk_at dksX2_letter_2 7 rfl rfl)
theorem dX2_letter_55 : decode cX2_letter 55 = .ok (.aload_n 0, 1) := dk_42 (dk_at dksX2_letter_2 8 rfl rfl)
theorem dX2_letter_56 : decode cX2_letter 56 = .ok (.getfield 262, 3) := dk_180 1 6 (dk_at dksX2_letter_2 9 rfl rfl)
theorem dX2_letter_59 : decode cX2_letter 59 = .ok (.iconst 1, 1) := dk_4 (dk_at dksX2_letter_2 12 rfl rfl)
theorem dX2_letter_60 : decode cX2_letter 60 = .ok (.isub, 1) := dk_100 (dk_at dksX2_letter_2 13 rfl rfl)
theorem dX2_letter_61 : decode cX2_letter 61 = .ok (.invokestatic 59, 3) := dk_184 0 59 (dk_at dksX2_letter_2 14 rfl rfl)
theorem dX2_letter_64 : decode cX2_letter 64 = .ok (.ifCond .eq 12, 3) := dk_153 0 12 (dk_at dksX2_letter_2 17 rfl rfl)
theorem dX2_letter_67 : decode cX2_letter 67 = .ok (.aload_n 0, 1) := dk_42 (dk_at dksX2_letter_2 20 rfl rfl)
theorem dX2_letter_68 : decode cX2_letter 68 = .ok (.getfield 40, 3) := dk_180 0 40 (dk_at dksX2_letter_2 21 rfl rfl)
theorem dX2_letter_71 : decode cX2_letter 71 = .ok (.iload_n 2, 1) := dk_28 (dk_at dksX2_letter_3 0 rfl rfl)
theorem dX2_letter_72 : decode cX2_letter 72 = .ok (.caload, 1) := dk_52 (dk_at dksX2_letter_3 1 rfl rfl)
theorem dX2_letter_73 : decode cX2_letter 73 = .ok (.goto 5, 3) := dk_167 0 5 (dk_at dksX2_letter_3 2 rfl rfl)
theorem dX2_letter_76 : decode cX2_letter 76 = .ok (.bipush (-2), 2) := dk_16 254 (dk_at dksX2_letter_3 5 rfl rfl)
theorem dX2_letter_78 : decode cX2_letter 78 = .ok (.ireturn, 1) := dk_172 (dk_at dksX2_letter_3 7 rfl rfl)
abbrev cX2_writeItem : ByteArray := prog_12_method_88_code
def yX2_writeItem : MethodName := ⟨RX2, "writeItem", "(I)V"⟩
def dkwX2_writeItem_4 : List UInt8 := [182, 1, 22, 162, 0, 19, 42, 45, 21, 4, 182, 1, 27, 182, 1, 9, 132, 4, 1, 167, 255, 234, 177]
abbrev dktX2_writeItem_4 : List UInt8 := dkwX2_writeItem_4 ++ []
def dkwX2_writeItem_3 : List UInt8 := [42, 27, 182, 0, 132, 153, 0, 9, 19, 1, 18, 167, 0, 6, 19, 1, 20, 78, 3, 54, 4, 21, 4, 45]
abbrev dktX2_writeItem_3 : List UInt8 := dkwX2_writeItem_3 ++ dktX2_writeItem_4
def dkwX2_writeItem_2 : List UInt8 := [28, 5, 182, 0, 63, 182, 1, 15, 42, 16, 45, 182, 1, 9, 42, 42, 28, 6, 182, 0, 63, 182, 1, 15]
abbrev dktX2_writeItem_2 : List UInt8 := dkwX2_writeItem_2 ++ dktX2_writeItem_3
def dkwX2_writeItem_1 : List UInt8 := [182, 1, 9, 42, 16, 48, 42, 28, 4, 182, 0, 63, 96, 182, 1, 9, 42, 16, 32, 182, 1, 9, 42, 42]
abbrev dktX2_writeItem_1 : List UInt8 := dkwX2_writeItem_1 ++ dktX2_writeItem_2
def dkwX2_writeItem_0 : List UInt8 := [42, 27, 182, 0, 120, 61, 42, 16, 48, 42, 28, 3, 182, 0, 63, 96, 182, 1, 9, 42, 16, 62]
abbrev dktX2_writeItem_0 : List UInt8 := dkwX2_writeItem_0 ++ dktX2_writeItem_1
theorem dksX2_writeItem_0 : cX2_writeItem.data.toList.drop 0 = dktX2_writeItem_0 := by decide +kernel
theorem dksX2_writeItem_1 : cX2_writeItem.data.toList.drop 22 = dktX2_writeItem_1 := dk_seg dksX2_writeItem_0 22 rfl rfl
theorem dksX2_writeItem_2 : cX2_writeItem.data.toList.drop 46 = dktX2_writeItem_2 := dk_seg dksX2_writeItem_1 24 rfl rfl
theorem dksX2_writeItem_3 : cX2_writeItem.data.toList.drop 70 = dktX2_writeItem_3 := dk_seg dksX2_writeItem_2 24 rfl rfl
theorem dksX2_writeItem_4 : cX2_writeItem.data.toList.drop 94 = dktX2_writeItem_4 := dk_seg dksX2_writeItem_3 24 rfl rfl
theorem dX2_writeItem_0 : decode cX2_writeItem 0 = .ok (.aload_n 0, 1) := dk_42 (dk_at dksX2_writeItem_0 0 rfl rfl)
theorem dX2_writeItem_1 : decode cX2_writeItem 1 = .ok (.iload_n 1, 1) := dk_27 (dk_at dksX2_writeItem_0 1 rfl rfl)
theorem dX2_writeItem_2 : decode cX2_writeItem 2 = .ok (.invokevirtual 120, 3) := dk_182 0 120 (dk_at dksX2_writeItem_0 2 rfl rfl)
theorem dX2_writeItem_5 : decode cX2_writeItem 5 = .ok (.istore_n 2, 1) := dk_61 (dk_at dksX2_writeItem_0 5 rfl rfl)
theorem dX2_writeItem_6 : decode cX2_writeItem 6 = .ok (.aload_n 0, 1) := dk_42 (dk_at dksX2_writeItem_0 6 rfl rfl)
theorem dX2_writeItem_7 : decode cX2_writeItem 7 = .ok (.bipush 48, 2) := dk_16 48 (dk_at dksX2_writeItem_0 7 rfl rfl)
theorem dX2_writeItem_9 : decode cX2_writeItem 9 = .ok (.aload_n 0, 1) := dk_42 (dk_at dksX2_writeItem_0 9 rfl rfl)
theorem dX2_writeItem_10 : decode cX2_writeItem 10 = .ok (.iload_n 2, 1) := dk_28 (dk_at dksX2_writeItem_0 10 rfl rfl)
theorem dX2_writeItem_11 : decode cX2_writeItem 11 = .ok (.iconst 0, 1) := dk_3 (dk_at dksX2_writeItem_0 11 rfl rfl)
theorem dX2_writeItem_12 : decode cX2_writeItem 12 = .ok (.invokevirtual 63, 3) := dk_182 0 63 (dk_at dksX2_writeItem_0 12 rfl rfl)
theorem dX2_writeItem_15 : decode cX2_writeItem 15 = .ok (.iadd, 1) := dk_96 (dk_at dksX2_writeItem_0 15 rfl rfl)
theorem dX2_writeItem_16 : decode cX2_writeItem 16 = .ok (.invokevirtual 265, 3) := dk_182 1 9 (dk_at dksX2_writeItem_0 16 rfl rfl)
theorem dX2_writeItem_19 : decode cX2_writeItem 19 = .ok (.aload_n 0, 1) := dk_42 (dk_at dksX2_writeItem_0 19 rfl rfl)
theorem dX2_writeItem_20 : decode cX2_writeItem 20 = .ok (.bipush 62, 2) := dk_16 62 (dk_at dksX2_writeItem_0 20 rfl rfl)
theorem dX2_writeItem_22 : decode cX2_writeItem 22 = .ok (.invokevirtual 265, 3) := dk_182 1 9 (dk_at dksX2_writeItem_1 0 rfl rfl)
theorem dX2_writeItem_25 : decode cX2_writeItem 25 = .ok (.aload_n 0, 1) := dk_42 (dk_at dksX2_writeItem_1 3 rfl rfl)
theorem dX2_writeItem_26 : decode cX2_writeItem 26 = .ok (.bipush 48, 2) := dk_16 48 (dk_at dksX2_writeItem_1 4 rfl rfl)
theorem dX2_writeItem_28 : decode cX2_writeItem 28 = .ok (.aload_n 0, 1) := dk_42 (dk_at dksX2_writeItem_1 6 rfl rfl)
theorem dX2_writeItem_29 : decode cX2_writeItem 29 = .ok (.iload_n 2, 1) := dk_28 (dk_at dksX2_writeItem_1 7 rfl rfl)
theorem dX2_writeItem_30 : decode cX2_writeItem 30 = .ok (.iconst 1, 1) := dk_4 (dk_at dksX2_writeItem_1 8 rfl rfl)
theorem dX2_writeItem_31 : decode cX2_writeItem 31 = .ok (.invokevirtual 63, 3) := dk_182 0 63 (dk_at dksX2_writeItem_1 9 rfl rfl)
theorem dX2_writeItem_34 : decode cX2_writeItem 34 = .ok (.iadd, 1) := dk_96 (dk_at dksX2_writeItem_1 12 rfl rfl)
theorem dX2_writeItem_35 : decode cX2_writeItem 35 = .ok (.invokevirtual 265, 3) := dk_182 1 9 (dk_at dksX2_writeItem_1 13 rfl rfl)
theorem dX2_writeItem_38 : decode cX2_writeItem 38 = .ok (.aload_n 0, 1) := dk_42 (dk_at dksX2_writeItem_1 16 rfl rfl)
theorem dX2_writeItem_39 : decode cX2_writeItem 39 = .ok (.bipush 32, 2) := dk_16 32 (dk_at dksX2_writeItem_1 17 rfl rfl)
theorem dX2_writeItem_41 : decode cX2_writeItem 41 = .ok (.invokevirtual 265, 3) := dk_182 1 9 (dk_at dksX2_writeItem_1 19 rfl rfl)
theorem dX2_writeItem_44 : decode cX2_writeItem 44 = .ok (.aload_n 0, 1) := dk_42 (dk_at dksX2_writeItem_1 22 rfl rfl)
theorem dX2_writeItem_45 : decode cX2_writeItem 45 = .ok (.aload_n 0, 1) := dk_42 (dk_at dksX2_writeItem_1 23 rfl rfl)
theorem dX2_writeItem_46 : decode cX2_writeItem 46 = .ok (.iload_n 2, 1) := dk_28 (dk_at dksX2_writeItem_2 0 rfl rfl)
theorem dX2_writeItem_47 : decode cX2_writeItem 47 = .ok (.iconst 2, 1) := dk_5 (dk_at dksX2_writeItem_2 1 rfl rfl)
theorem dX2_writeItem_48 : decode cX2_writeItem 48 = .ok (.invokevirtual 63, 3) := dk_182 0 63 (dk_at dksX2_writeItem_2 2 rfl rfl)
theorem dX2_writeItem_51 : decode cX2_writeItem 51 = .ok (.invokevirtual 271, 3) := dk_182 1 15 (dk_at dksX2_writeItem_2 5 rfl rfl)
theorem dX2_writeItem_54 : decode cX2_writeItem 54 = .ok (.aload_n 0, 1) := dk_42 (dk_at dksX2_writeItem_2 8 rfl rfl)
theorem dX2_writeItem_55 : decode cX2_writeItem 55 = .ok (.bipush 45, 2) := dk_16 45 (dk_at dksX2_writeItem_2 9 rfl rfl)
theorem dX2_writeItem_57 : decode cX2_writeItem 57 = .ok (.invokevirtual 265, 3) := dk_182 1 9 (dk_at dksX2_writeItem_2 11 rfl rfl)
theorem dX2_writeItem_60 : decode cX2_writeItem 60 = .ok (.aload_n 0, 1) := dk_42 (dk_at dksX2_writeItem_2 14 rfl rfl)
theorem dX2_writeItem_61 : decode cX2_writeItem 61 = .ok (.aload_n 0, 1) := dk_42 (dk_at dksX2_writeItem_2 15 rfl rfl)
theorem dX2_writeItem_62 : decode cX2_writeItem 62 = .ok (.iload_n 2, 1) := dk_28 (dk_at dksX2_writeItem_2 16 rfl rfl)
theorem dX2_writeItem_63 : decode cX2_writeItem 63 = .ok (.iconst 3, 1) := dk_6 (dk_at dksX2_writeItem_2 17 rfl rfl)
theorem dX2_writeItem_64 : decode cX2_writeItem 64 = .ok (.invokevirtual 63, 3) := dk_182 0 63 (dk_at dksX2_writeItem_2 18 rfl rfl)
theorem dX2_writeItem_67 : decode cX2_writeItem 67 = .ok (.invokevirtual 271, 3) := dk_182 1 15 (dk_at dksX2_writeItem_2 21 rfl rfl)
theorem dX2_writeItem_70 : decode cX2_writeItem 70 = .ok (.aload_n 0, 1) := dk_42 (dk_at dksX2_writeItem_3 0 rfl rfl)
theorem dX2_writeItem_71 : decode cX2_writeItem 71 = .ok (.iload_n 1, 1) := dk_27 (dk_at dksX2_writeItem_3 1 rfl rfl)
theorem dX2_writeItem_72 : decode cX2_writeItem 72 = .ok (.invokevirtual 132, 3) := dk_182 0 132 (dk_at dksX2_writeItem_3 2 rfl rfl)
theorem dX2_writeItem_75 : decode cX2_writeItem 75 = .ok (.ifCond .eq 9, 3) := dk_153 0 9 (dk_at dksX2_writeItem_3 5 rfl rfl)
theorem dX2_writeItem_78 : decode cX2_writeItem 78 = .ok (.ldc_w 274, 3) := dk_19 1 18 (dk_at dksX2_writeItem_3 8 rfl rfl)
theorem dX2_writeItem_81 : decode cX2_writeItem 81 = .ok (.goto 6, 3) := dk_167 0 6 (dk_at dksX2_writeItem_3 11 rfl rfl)
theorem dX2_writeItem_84 : decode cX2_writeItem 84 = .ok (.ldc_w 276, 3) := dk_19 1 20 (dk_at dksX2_writeItem_3 14 rfl rfl)
theorem dX2_writeItem_87 : decode cX2_writeItem 87 = .ok (.astore_n 3, 1) := dk_78 (dk_at dksX2_writeItem_3 17 rfl rfl)
theorem dX2_writeItem_88 : decode cX2_writeItem 88 = .ok (.iconst 0, 1) := dk_3 (dk_at dksX2_writeItem_3 18 rfl rfl)
theorem dX2_writeItem_89 : decode cX2_writeItem 89 = .ok (.istore 4, 2) := dk_54 4 (dk_at dksX2_writeItem_3 19 rfl rfl)
theorem dX2_writeItem_91 : decode cX2_writeItem 91 = .ok (.iload 4, 2) := dk_21 4 (dk_at dksX2_writeItem_3 21 rfl rfl)
theorem dX2_writeItem_93 : decode cX2_writeItem 93 = .ok (.aload_n 3, 1) := dk_45 (dk_at dksX2_writeItem_3 23 rfl rfl)
theorem dX2_writeItem_94 : decode cX2_writeItem 94 = .ok (.invokevirtual 278, 3) := dk_182 1 22 (dk_at dksX2_writeItem_4 0 rfl rfl)
theorem dX2_writeItem_97 : decode cX2_writeItem 97 = .ok (.if_icmp .ge 19, 3) := dk_162 0 19 (dk_at dksX2_writeItem_4 3 rfl rfl)
theorem dX2_writeItem_100 : decode cX2_writeItem 100 = .ok (.aload_n 0, 1) := dk_42 (dk_at dksX2_writeItem_4 6 rfl rfl)
theorem dX2_writeItem_101 : decode cX2_writeItem 101 = .ok (.aload_n 3, 1) := dk_45 (dk_at dksX2_writeItem_4 7 rfl rfl)
theorem dX2_writeItem_102 : decode cX2_writeItem 102 = .ok (.iload 4, 2) := dk_21 4 (dk_at dksX2_writeItem_4 8 rfl rfl)
theorem dX2_writeItem_104 : decode cX2_writeItem 104 = .ok (.invokevirtual 283, 3) := dk_182 1 27 (dk_at dksX2_writeItem_4 10 rfl rfl)
theorem dX2_writeItem_107 : decode cX2_writeItem 107 = .ok (.invokevirtual 265, 3) := dk_182 1 9 (dk_at dksX2_writeItem_4 13 rfl rfl)
theorem dX2_writeItem_110 : decode cX2_writeItem 110 = .ok (.iinc 4 1, 3) := dk_132 4 1 (dk_at dksX2_writeItem_4 16 rfl rfl)
theorem dX2_writeItem_113 : decode cX2_writeItem 113 = .ok (.goto (-22), 3) := dk_167 255 234 (dk_at dksX2_writeItem_4 19 rfl rfl)
theorem dX2_writeItem_116 : decode cX2_writeItem 116 = .ok (.return_, 1) := dk_177 (dk_at dksX2_writeItem_4 22 rfl rfl)
abbrev cX2_write : ByteArray := prog_12_method_85_code
def yX2_write : MethodName := ⟨RX2, "write", "(I)V"⟩
def dkwX2_write_0 : List UInt8 := [42, 180, 0, 40, 42, 180, 1, 6, 27, 146, 85, 42, 89, 180, 1, 6, 4, 96, 181, 1, 6, 177]
abbrev dktX2_write_0 : List UInt8 := dkwX2_write_0 ++ []
theorem dksX2_write_0 : cX2_write.data.toList.drop 0 = dktX2_write_0 := by decide +kernel
theorem dX2_write_0 : decode cX2_write 0 = .ok (.aload_n 0, 1) := dk_42 (dk_at dksX2_write_0 0 rfl rfl)
theorem dX2_write_1 : decode cX2_write 1 = .ok (.getfield 40, 3) := dk_180 0 40 (dk_at dksX2_write_0 1 rfl rfl)
theorem dX2_write_4 : decode cX2_write 4 = .ok (.aload_n 0, 1) := dk_42 (dk_at dksX2_write_0 4 rfl rfl)
theorem dX2_write_5 : decode cX2_write 5 = .ok (.getfield 262, 3) := dk_180 1 6 (dk_at dksX2_write_0 5 rfl rfl)
theorem dX2_write_8 : decode cX2_write 8 = .ok (.iload_n 1, 1) := dk_27 (dk_at dksX2_write_0 8 rfl rfl)
theorem dX2_write_9 : decode cX2_write 9 = .ok (.i2c, 1) := dk_146 (dk_at dksX2_write_0 9 rfl rfl)
theorem dX2_write_10 : decode cX2_write 10 = .ok (.castore, 1) := dk_85 (dk_at dksX2_write_0 10 rfl rfl)
theorem dX2_write_11 : decode cX2_write 11 = .ok (.aload_n 0, 1) := dk_42 (dk_at dksX2_write_0 11 rfl rfl)
theorem dX2_write_12 : decode cX2_write 12 = .ok (.dup, 1) := dk_89 (dk_at dksX2_write_0 12 rfl rfl)
theorem dX2_write_13 : decode cX2_write 13 = .ok (.getfield 262, 3) := dk_180 1 6 (dk_at dksX2_write_0 13 rfl rfl)
theorem dX2_write_16 : decode cX2_write 16 = .ok (.iconst 1, 1) := dk_4 (dk_at dksX2_write_0 16 rfl rfl)
theorem dX2_write_17 : decode cX2_write 17 = .ok (.iadd, 1) := dk_96 (dk_at dksX2_write_0 17 rfl rfl)
theorem dX2_write_18 : decode cX2_write 18 = .ok (.putfield 262, 3) := dk_181 1 6 (dk_at dksX2_write_0 18 rfl rfl)
theorem dX2_write_21 : decode cX2_write 21 = .ok (.return_, 1) := dk_177 (dk_at dksX2_write_0 21 rfl rfl)
abbrev cX2_writeTime : ByteArray := prog_12_method_87_code
def yX2_writeTime : MethodName := ⟨RX2, "writeTime", "(I)V"⟩
def dkwX2_writeTime_1 : List UInt8 := [42, 27, 17, 5, 160, 112, 16, 60, 108, 182, 1, 12, 42, 27, 16, 60, 112, 182, 1, 12, 177]
abbrev dktX2_writeTime_1 : List UInt8 := dkwX2_writeTime_1 ++ []
def dkwX2_writeTime_0 : List UInt8 := [42, 16, 100, 182, 1, 9, 42, 16, 48, 27, 17, 5, 160, 108, 96, 182, 1, 9, 42, 16, 104, 182, 1, 9]
abbrev dktX2_writeTime_0 : List UInt8 := dkwX2_writeTime_0 ++ dktX2_writeTime_1
theorem dksX2_writeTime_0 : cX2_writeTime.data.toList.drop 0 = dktX2_writeTime_0 := by decide +kernel
theorem dksX2_writeTime_1 : cX2_writeTime.data.toList.drop 24 = dktX2_writeTime_1 := dk_seg dksX2_writeTime_0 24 rfl rfl
theorem dX2_writeTime_0 : decode cX2_writeTime 0 = .ok (.aload_n 0, 1) := dk_42 (dk_at dksX2_writeTime_0 0 rfl rfl)
theorem dX2_writeTime_1 : decode cX2_writeTime 1 = .ok (.bipush 100, 2) := dk_16 100 (dk_at dksX2_writeTime_0 1 rfl rfl)
theorem dX2_writeTime_3 : decode cX2_writeTime 3 = .ok (.invokevirtual 265, 3) := dk_182 1 9 (dk_at dksX2_writeTime_0 3 rfl rfl)
theorem dX2_writeTime_6 : decode cX2_writeTime 6 = .ok (.aload_n 0, 1) := dk_42 (dk_at dksX2_writeTime_0 6 rfl rfl)
theorem dX2_writeTime_7 : decode cX2_writeTime 7 = .ok (.bipush 48, 2) := dk_16 48 (dk_at dksX2_writeTime_0 7 rfl rfl)
theorem dX2_writeTime_9 : decode cX2_writeTime 9 = .ok (.iload_n 1, 1) := dk_27 (dk_at dksX2_writeTime_0 9 rfl rfl)
theorem dX2_writeTime_10 : decode cX2_writeTime 10 = .ok (.sipush 1440, 3) := dk_17 5 160 (dk_at dksX2_writeTime_0 10 rfl rfl)
theorem dX2_writeTime_13 : decode cX2_writeTime 13 = .ok (.idiv, 1) := dk_108 (dk_at dksX2_writeTime_0 13 rfl rfl)
theorem dX2_writeTime_14 : decode cX2_writeTime 14 = .ok (.iadd, 1) := dk_96 (dk_at dksX2_writeTime_0 14 rfl rfl)
theorem dX2_writeTime_15 : decode cX2_writeTime 15 = .ok (.invokevirtual 265, 3) := dk_182 1 9 (dk_at dksX2_writeTime_0 15 rfl rfl)
theorem dX2_writeTime_18 : decode cX2_writeTime 18 = .ok (.aload_n 0, 1) := dk_42 (dk_at dksX2_writeTime_0 18 rfl rfl)
theorem dX2_writeTime_19 : decode cX2_writeTime 19 = .ok (.bipush 104, 2) := dk_16 104 (dk_at dksX2_writeTime_0 19 rfl rfl)
theorem dX2_writeTime_21 : decode cX2_writeTime 21 = .ok (.invokevirtual 265, 3) := dk_182 1 9 (dk_at dksX2_writeTime_0 21 rfl rfl)
theorem dX2_writeTime_24 : decode cX2_writeTime 24 = .ok (.aload_n 0, 1) := dk_42 (dk_at dksX2_writeTime_1 0 rfl rfl)
theorem dX2_writeTime_25 : decode cX2_writeTime 25 = .ok (.iload_n 1, 1) := dk_27 (dk_at dksX2_writeTime_1 1 rfl rfl)
theorem dX2_writeTime_26 : decode cX2_writeTime 26 = .ok (.sipush 1440, 3) := dk_17 5 160 (dk_at dksX2_writeTime_1 2 rfl rfl)
theorem dX2_writeTime_29 : decode cX2_writeTime 29 = .ok (.irem, 1) := dk_112 (dk_at dksX2_writeTime_1 5 rfl rfl)
theorem dX2_writeTime_30 : decode cX2_writeTime 30 = .ok (.bipush 60, 2) := dk_16 60 (dk_at dksX2_writeTime_1 6 rfl rfl)
theorem dX2_writeTime_32 : decode cX2_writeTime 32 = .ok (.idiv, 1) := dk_108 (dk_at dksX2_writeTime_1 8 rfl rfl)
theorem dX2_writeTime_33 : decode cX2_writeTime 33 = .ok (.invokevirtual 268, 3) := dk_182 1 12 (dk_at dksX2_writeTime_1 9 rfl rfl)
theorem dX2_writeTime_36 : decode cX2_writeTime 36 = .ok (.aload_n 0, 1) := dk_42 (dk_at dksX2_writeTime_1 12 rfl rfl)
theorem dX2_writeTime_37 : decode cX2_writeTime 37 = .ok (.iload_n 1, 1) := dk_27 (dk_at dksX2_writeTime_1 13 rfl rfl)
theorem dX2_writeTime_38 : decode cX2_writeTime 38 = .ok (.bipush 60, 2) := dk_16 60 (dk_at dksX2_writeTime_1 14 rfl rfl)
theorem dX2_writeTime_40 : decode cX2_writeTime 40 = .ok (.irem, 1) := dk_112 (dk_at dksX2_writeTime_1 16 rfl rfl)
theorem dX2_writeTime_41 : decode cX2_writeTime 41 = .ok (.invokevirtual 268, 3) := dk_182 1 12 (dk_at dksX2_writeTime_1 17 rfl rfl)
theorem dX2_writeTime_44 : decode cX2_writeTime 44 = .ok (.return_, 1) := dk_177 (dk_at dksX2_writeTime_1 20 rfl rfl)
abbrev cX2_writeTwo : ByteArray := prog_12_method_86_code
def yX2_writeTwo : MethodName := ⟨RX2, "writeTwo", "(I)V"⟩
def dkwX2_writeTwo_0 : List UInt8 := [42, 16, 48, 27, 16, 10, 108, 96, 182, 1, 9, 42, 16, 48, 27, 16, 10, 112, 96, 182, 1, 9, 177]
abbrev dktX2_writeTwo_0 : List UInt8 := dkwX2_writeTwo_0 ++ []
theorem dksX2_writeTwo_0 : cX2_writeTwo.data.toList.drop 0 = dktX2_writeTwo_0 := by decide +kernel
theorem dX2_writeTwo_0 : decode cX2_writeTwo 0 = .ok (.aload_n 0, 1) := dk_42 (dk_at dksX2_writeTwo_0 0 rfl rfl)
theorem dX2_writeTwo_1 : decode cX2_writeTwo 1 = .ok (.bipush 48, 2) := dk_16 48 (dk_at dksX2_writeTwo_0 1 rfl rfl)
theorem dX2_writeTwo_3 : decode cX2_writeTwo 3 = .ok (.iload_n 1, 1) := dk_27 (dk_at dksX2_writeTwo_0 3 rfl rfl)
theorem dX2_writeTwo_4 : decode cX2_writeTwo 4 = .ok (.bipush 10, 2) := dk_16 10 (dk_at dksX2_writeTwo_0 4 rfl rfl)
theorem dX2_writeTwo_6 : decode cX2_writeTwo 6 = .ok (.idiv, 1) := dk_108 (dk_at dksX2_writeTwo_0 6 rfl rfl)
theorem dX2_writeTwo_7 : decode cX2_writeTwo 7 = .ok (.iadd, 1) := dk_96 (dk_at dksX2_writeTwo_0 7 rfl rfl)
theorem dX2_writeTwo_8 : decode cX2_writeTwo 8 = .ok (.invokevirtual 265, 3) := dk_182 1 9 (dk_at dksX2_writeTwo_0 8 rfl rfl)
theorem dX2_writeTwo_11 : decode cX2_writeTwo 11 = .ok (.aload_n 0, 1) := dk_42 (dk_at dksX2_writeTwo_0 11 rfl rfl)
theorem dX2_writeTwo_12 : decode cX2_writeTwo 12 = .ok (.bipush 48, 2) := dk_16 48 (dk_at dksX2_writeTwo_0 12 rfl rfl)
theorem dX2_writeTwo_14 : decode cX2_writeTwo 14 = .ok (.iload_n 1, 1) := dk_27 (dk_at dksX2_writeTwo_0 14 rfl rfl)
theorem dX2_writeTwo_15 : decode cX2_writeTwo 15 = .ok (.bipush 10, 2) := dk_16 10 (dk_at dksX2_writeTwo_0 15 rfl rfl)
theorem dX2_writeTwo_17 : decode cX2_writeTwo 17 = .ok (.irem, 1) := dk_112 (dk_at dksX2_writeTwo_0 17 rfl rfl)
theorem dX2_writeTwo_18 : decode cX2_writeTwo 18 = .ok (.iadd, 1) := dk_96 (dk_at dksX2_writeTwo_0 18 rfl rfl)
theorem dX2_writeTwo_19 : decode cX2_writeTwo 19 = .ok (.invokevirtual 265, 3) := dk_182 1 9 (dk_at dksX2_writeTwo_0 19 rfl rfl)
theorem dX2_writeTwo_22 : decode cX2_writeTwo 22 = .ok (.return_, 1) := dk_177 (dk_at dksX2_writeTwo_0 22 rfl rfl)
abbrev cX2_feed : ByteArray := prog_12_method_90_code
def yX2_feed : MethodName := ⟨RX2, "feed", "(I)I"⟩
def dkwX2_feed_2 : List UInt8 := [180, 1, 34, 172]
abbrev dktX2_feed_2 : List UInt8 := dkwX2_feed_2 ++ []
def dkwX2_feed_1 : List UInt8 := [172, 42, 180, 0, 44, 42, 180, 1, 34, 27, 146, 85, 42, 89, 180, 1, 34, 4, 96, 181, 1, 34, 42]
abbrev dktX2_feed_1 : List UInt8 := dkwX2_feed_1 ++ dktX2_feed_2
def dkwX2_feed_0 : List UInt8 := [27, 16, 32, 16, 126, 184, 0, 59, 154, 0, 5, 2, 172, 42, 180, 1, 34, 16, 60, 160, 0, 6, 16, 253]
abbrev dktX2_feed_0 : List UInt8 := dkwX2_feed_0 ++ dktX2_feed_1
theorem dksX2_feed_0 : cX2_feed.data.toList.drop 0 = dktX2_feed_0 := by decide +kernel
theorem dksX2_feed_1 : cX2_feed.data.toList.drop 24 = dktX2_feed_1 := dk_seg dksX2_feed_0 24 rfl rfl
theorem dksX2_feed_2 : cX2_feed.data.toList.drop 47 = dktX2_feed_2 := dk_seg dksX2_feed_1 23 rfl rfl
theorem dX2_feed_0 : decode cX2_feed 0 = .ok (.iload_n 1, 1) := dk_27 (dk_at dksX2_feed_0 0 rfl rfl)
theorem dX2_feed_1 : decode cX2_feed 1 = .ok (.bipush 32, 2) := dk_16 32 (dk_at dksX2_feed_0 1 rfl rfl)
theorem dX2_feed_3 : decode cX2_feed 3 = .ok (.bipush 126, 2) := dk_16 126 (dk_at dksX2_feed_0 3 rfl rfl)
theorem dX2_feed_5 : decode cX2_feed 5 = .ok (.invokestatic 59, 3) := dk_184 0 59 (dk_at dksX2_feed_0 5 rfl rfl)
theorem dX2_feed_8 : decode cX2_feed 8 = .ok (.ifCond .ne 5, 3) := dk_154 0 5 (dk_at dksX2_feed_0 8 rfl rfl)
theorem dX2_feed_11 : decode cX2_feed 11 = .ok (.iconst (-1), 1) := dk_2 (dk_at dksX2_feed_0 11 rfl rfl)
theorem dX2_feed_12 : decode cX2_feed 12 = .ok (.ireturn, 1) := dk_172 (dk_at dksX2_feed_0 12 rfl rfl)
theorem dX2_feed_13 : decode cX2_feed 13 = .ok (.aload_n 0, 1) := dk_42 (dk_at dksX2_feed_0 13 rfl rfl)
theorem dX2_feed_14 : decode cX2_feed 14 = .ok (.getfield 290, 3) := dk_180 1 34 (dk_at dksX2_feed_0 14 rfl rfl)
theorem dX2_feed_17 : decode cX2_feed 17 = .ok (.bipush 60, 2) := dk_16 60 (dk_at dksX2_feed_0 17 rfl rfl)
theorem dX2_feed_19 : decode cX2_feed 19 = .ok (.if_icmp .ne 6, 3) := dk_160 0 6 (dk_at dksX2_feed_0 19 rfl rfl)
theorem dX2_feed_22 : decode cX2_feed 22 = .ok (.bipush (-3), 2) := dk_16 253 (dk_at dksX2_feed_0 22 rfl rfl)
theorem dX2_feed_24 : decode cX2_feed 24 = .ok (.ireturn, 1) := dk_172 (dk_at dksX2_feed_1 0 rfl rfl)
theorem dX2_feed_25 : decode cX2_feed 25 = .ok (.aload_n 0, 1) := dk_42 (dk_at dksX2_feed_1 1 rfl rfl)
theorem dX2_feed_26 : decode cX2_feed 26 = .ok (.getfield 44, 3) := dk_180 0 44 (dk_at dksX2_feed_1 2 rfl rfl)
theorem dX2_feed_29 : decode cX2_feed 29 = .ok (.aload_n 0, 1) := dk_42 (dk_at dksX2_feed_1 5 rfl rfl)
theorem dX2_feed_30 : decode cX2_feed 30 = .ok (.getfield 290, 3) := dk_180 1 34 (dk_at dksX2_feed_1 6 rfl rfl)
theorem dX2_feed_33 : decode cX2_feed 33 = .ok (.iload_n 1, 1) := dk_27 (dk_at dksX2_feed_1 9 rfl rfl)
theorem dX2_feed_34 : decode cX2_feed 34 = .ok (.i2c, 1) := dk_146 (dk_at dksX2_feed_1 10 rfl rfl)
theorem dX2_feed_35 : decode cX2_feed 35 = .ok (.castore, 1) := dk_85 (dk_at dksX2_feed_1 11 rfl rfl)
theorem dX2_feed_36 : decode cX2_feed 36 = .ok (.aload_n 0, 1) := dk_42 (dk_at dksX2_feed_1 12 rfl rfl)
theorem dX2_feed_37 : decode cX2_feed 37 = .ok (.dup, 1) := dk_89 (dk_at dksX2_feed_1 13 rfl rfl)
theorem dX2_feed_38 : decode cX2_feed 38 = .ok (.getfield 290, 3) := dk_180 1 34 (dk_at dksX2_feed_1 14 rfl rfl)
theorem dX2_feed_41 : decode cX2_feed 41 = .ok (.iconst 1, 1) := dk_4 (dk_at dksX2_feed_1 17 rfl rfl)
theorem dX2_feed_42 : decode cX2_feed 42 = .ok (.iadd, 1) := dk_96 (dk_at dksX2_feed_1 18 rfl rfl)
theorem dX2_feed_43 : decode cX2_feed 43 = .ok (.putfield 290, 3) := dk_181 1 34 (dk_at dksX2_feed_1 19 rfl rfl)
theorem dX2_feed_46 : decode cX2_feed 46 = .ok (.aload_n 0, 1) := dk_42 (dk_at dksX2_feed_1 22 rfl rfl)
theorem dX2_feed_47 : decode cX2_feed 47 = .ok (.getfield 290, 3) := dk_180 1 34 (dk_at dksX2_feed_2 0 rfl rfl)
theorem dX2_feed_50 : decode cX2_feed 50 = .ok (.ireturn, 1) := dk_172 (dk_at dksX2_feed_2 3 rfl rfl)
abbrev cX2_execute : ByteArray := prog_12_method_97_code
def yX2_execute : MethodName := ⟨RX2, "execute", "()I"⟩
def dkwX2_execute_8 : List UInt8 := [17, 1, 42, 184, 0, 53, 17, 254, 212, 29, 100, 172, 42, 42, 180, 0, 19, 182, 0, 75, 27, 172]
abbrev dktX2_execute_8 : List UInt8 := dkwX2_execute_8 ++ []
def dkwX2_execute_7 : List UInt8 := [181, 0, 71, 42, 3, 181, 1, 34, 29, 27, 162, 0, 25, 42, 180, 0, 19, 3, 42, 180, 0, 9, 3]
abbrev dktX2_execute_7 : List UInt8 := dkwX2_execute_7 ++ dktX2_execute_8
def dkwX2_execute_6 : List UInt8 := [182, 1, 103, 155, 0, 19, 42, 89, 180, 1, 36, 4, 96, 181, 1, 36, 132, 3, 1, 167, 255, 230, 42, 3]
abbrev dktX2_execute_6 : List UInt8 := dkwX2_execute_6 ++ dktX2_execute_7
def dkwX2_execute_5 : List UInt8 := [184, 0, 53, 42, 3, 181, 1, 36, 42, 4, 181, 0, 71, 3, 62, 29, 27, 162, 0, 27, 42, 4]
abbrev dktX2_execute_5 : List UInt8 := dkwX2_execute_5 ++ dktX2_execute_6
def dkwX2_execute_4 : List UInt8 := [17, 255, 56, 42, 180, 1, 36, 100, 172, 42, 180, 0, 9, 3, 42, 180, 0, 19, 3, 17, 1, 42]
abbrev dktX2_execute_4 : List UInt8 := dkwX2_execute_4 ++ dktX2_execute_5
def dkwX2_execute_3 : List UInt8 := [180, 1, 66, 154, 0, 14, 42, 180, 1, 36, 42, 180, 1, 34, 162, 0, 17, 42, 3, 181, 1, 34]
abbrev dktX2_execute_3 : List UInt8 := dkwX2_execute_3 ++ dktX2_execute_4
def dkwX2_execute_2 : List UInt8 := [61, 42, 89, 180, 1, 36, 28, 153, 0, 7, 4, 167, 0, 4, 3, 96, 181, 1, 36, 167, 255, 203, 42]
abbrev dktX2_execute_2 : List UInt8 := dkwX2_execute_2 ++ dktX2_execute_3
def dkwX2_execute_1 : List UInt8 := [132, 1, 1, 42, 180, 1, 66, 154, 0, 16, 42, 182, 1, 63, 16, 59, 160, 0, 7, 4, 167, 0, 4, 3]
abbrev dktX2_execute_1 : List UInt8 := dkwX2_execute_1 ++ dktX2_execute_2
def dkwX2_execute_0 : List UInt8 := [42, 3, 181, 1, 36, 42, 3, 181, 1, 66, 3, 60, 4, 61, 28, 153, 0, 55, 42, 3, 182, 1, 103, 62]
abbrev dktX2_execute_0 : List UInt8 := dkwX2_execute_0 ++ dktX2_execute_1
theorem dksX2_execute_0 : cX2_execute.data.toList.drop 0 = dktX2_execute_0 := by decide +kernel
theorem dksX2_execute_1 : cX2_execute.data.toList.drop 24 = dktX2_execute_1 := dk_seg dksX2_execute_0 24 rfl rfl
theorem dksX2_execute_2 : cX2_execute.data.toList.drop 48 = dktX2_execute_2 := dk_seg dksX2_execute_1 24 rfl rfl
theorem dksX2_execute_3 : cX2_execute.data.toList.drop 71 = dktX2_execute_3 := dk_seg dksX2_execute_2 23 rfl rfl
theorem dksX2_execute_4 : cX2_execute.data.toList.drop 93 = dktX2_execute_4 := dk_seg dksX2_execute_3 22 rfl rfl
theorem dksX2_execute_5 : cX2_execute.data.toList.drop 115 = dktX2_execute_5 := dk_seg dksX2_execute_4 22 rfl rfl
theorem dksX2_execute_6 : cX2_execute.data.toList.drop 137 = dktX2_execute_6 := dk_seg dksX2_execute_5 22 rfl rfl
theorem dksX2_execute_7 : cX2_execute.data.toList.drop 161 = dktX2_execute_7 := dk_seg dksX2_execute_6 24 rfl rfl
theorem dksX2_execute_8 : cX2_execute.data.toList.drop 184 = dktX2_execute_8 := dk_seg dksX2_execute_7 23 rfl rfl
theorem dX2_execute_0 : decode cX2_execute 0 = .ok (.aload_n 0, 1) := dk_42 (dk_at dksX2_execute_0 0 rfl rfl)
theorem dX2_execute_1 : decode cX2_execute 1 = .ok (.iconst 0, 1) := dk_3 (dk_at dksX2_execute_0 1 rfl rfl)
theorem dX2_execute_2 : decode cX2_execute 2 = .ok (.putfield 292, 3) := dk_181 1 36 (dk_at dksX2_execute_0 2 rfl rfl)
theorem dX2_execute_5 : decode cX2_execute 5 = .ok (.aload_n 0, 1) := dk_42 (dk_at dksX2_execute_0 5 rfl rfl)
theorem dX2_execute_6 : decode cX2_execute 6 = .ok (.iconst 0, 1) := dk_3 (dk_at dksX2_execute_0 6 rfl rfl)
theorem dX2_execute_7 : decode cX2_execute 7 = .ok (.putfield 322, 3) := dk_181 1 66 (dk_at dksX2_execute_0 7 rfl rfl)
theorem dX2_execute_10 : decode cX2_execute 10 = .ok (.iconst 0, 1) := dk_3 (dk_at dksX2_execute_0 10 rfl rfl)
theorem dX2_execute_11 : decode cX2_execute 11 = .ok (.istore_n 1, 1) := dk_60 (dk_at dksX2_execute_0 11 rfl rfl)
theorem dX2_execute_12 : decode cX2_execute 12 = .ok (.iconst 1, 1) := dk_4 (dk_at dksX2_execute_0 12 rfl rfl)
theorem dX2_execute_13 : decode cX2_execute 13 = .ok (.istore_n 2, 1) := dk_61 (dk_at dksX2_execute_0 13 rfl rfl)
theorem dX2_execute_14 : decode cX2_execute 14 = .ok (.iload_n 2, 1) := dk_28 (dk_at dksX2_execute_0 14 rfl rfl)
theorem dX2_execute_15 : decode cX2_execute 15 = .ok (.ifCond .eq 55, 3) := dk_153 0 55 (dk_at dksX2_execute_0 15 rfl rfl)
theorem dX2_execute_18 : decode cX2_execute 18 = .ok (.aload_n 0, 1) := dk_42 (dk_at dksX2_execute_0 18 rfl rfl)
theorem dX2_execute_19 : decode cX2_execute 19 = .ok (.iconst 0, 1) := dk_3 (dk_at dksX2_execute_0 19 rfl rfl)
theorem dX2_execute_20 : decode cX2_execute 20 = .ok (.invokevirtual 359, 3) := dk_182 1 103 (dk_at dksX2_execute_0 20 rfl rfl)
theorem dX2_execute_23 : decode cX2_execute 23 = .ok (.istore_n 3, 1) := dk_62 (dk_at dksX2_execute_0 23 rfl rfl)
theorem dX2_execute_24 : decode cX2_execute 24 = .ok (.iinc 1 1, 3) := dk_132 1 1 (dk_at dksX2_execute_1 0 rfl rfl)
theorem dX2_execute_27 : decode cX2_execute 27 = .ok (.aload_n 0, 1) := dk_42 (dk_at dksX2_execute_1 3 rfl rfl)
theorem dX2_execute_28 : decode cX2_execute 28 = .ok (.getfield 322, 3) := dk_180 1 66 (dk_at dksX2_execute_1 4 rfl rfl)
theorem dX2_execute_31 : decode cX2_execute 31 = .ok (.ifCond .ne 16, 3) := dk_154 0 16 (dk_at dksX2_execute_1 7 rfl rfl)
theorem dX2_execute_34 : decode cX2_execute 34 = .ok (.aload_n 0, 1) := dk_42 (dk_at dksX2_execute_1 10 rfl rfl)
theorem dX2_execute_35 : decode cX2_execute 35 = .ok (.invokevirtual 319, 3) := dk_182 1 63 (dk_at dksX2_execute_1 11 rfl rfl)
theorem dX2_execute_38 : decode cX2_execute 38 = .ok (.bipush 59, 2) := dk_16 59 (dk_at dksX2_execute_1 14 rfl rfl)
theorem dX2_execute_40 : decode cX2_execute 40 = .ok (.if_icmp .ne 7, 3) := dk_160 0 7 (dk_at dksX2_execute_1 16 rfl rfl)
theorem dX2_execute_43 : decode cX2_execute 43 = .ok (.iconst 1, 1) := dk_4 (dk_at dksX2_execute_1 19 rfl rfl)
theorem dX2_execute_44 : decode cX2_execute 44 = .ok (.goto 4, 3) := dk_167 0 4 (dk_at dksX2_execute_1 20 rfl rfl)
theorem dX2_execute_47 : decode cX2_execute 47 = .ok (.iconst 0, 1) := dk_3 (dk_at dksX2_execute_1 23 rfl rfl)
theorem dX2_execute_48 : decode cX2_execute 48 = .ok (.istore_n 2, 1) := dk_61 (dk_at dksX2_execute_2 0 rfl rfl)
theorem dX2_execute_49 : decode cX2_execute 49 = .ok (.aload_n 0, 1) := dk_42 (dk_at dksX2_execute_2 1 rfl rfl)
theorem dX2_execute_50 : decode cX2_execute 50 = .ok (.dup, 1) := dk_89 (dk_at dksX2_execute_2 2 rfl rfl)
theorem dX2_execute_51 : decode cX2_execute 51 = .ok (.getfield 292, 3) := dk_180 1 36 (dk_at dksX2_execute_2 3 rfl rfl)
theorem dX2_execute_54 : decode cX2_execute 54 = .ok (.iload_n 2, 1) := dk_28 (dk_at dksX2_execute_2 6 rfl rfl)
theorem dX2_execute_55 : decode cX2_execute 55 = .ok (.ifCond .eq 7, 3) := dk_153 0 7 (dk_at dksX2_execute_2 7 rfl rfl)
theorem dX2_execute_58 : decode cX2_execute 58 = .ok (.iconst 1, 1) := dk_4 (dk_at dksX2_execute_2 10 rfl rfl)
theorem dX2_execute_59 : decode cX2_execute 59 = .ok (.goto 4, 3) := dk_167 0 4 (dk_at dksX2_execute_2 11 rfl rfl)
theorem dX2_execute_62 : decode cX2_execute 62 = .ok (.iconst 0, 1) := dk_3 (dk_at dksX2_execute_2 14 rfl rfl)
theorem dX2_execute_63 : decode cX2_execute 63 = .ok (.iadd, 1) := dk_96 (dk_at dksX2_execute_2 15 rfl rfl)
theorem dX2_execute_64 : decode cX2_execute 64 = .ok (.putfield 292, 3) := dk_181 1 36 (dk_at dksX2_execute_2 16 rfl rfl)
theorem dX2_execute_67 : decode cX2_execute 67 = .ok (.goto (-53), 3) := dk_167 255 203 (dk_at dksX2_execute_2 19 rfl rfl)
theorem dX2_execute_70 : decode cX2_execute 70 = .ok (.aload_n 0, 1) := dk_42 (dk_at dksX2_execute_2 22 rfl rfl)
theorem dX2_execute_71 : decode cX2_execute 71 = .ok (.getfield 322, 3) := dk_180 1 66 (dk_at dksX2_execute_3 0 rfl rfl)
theorem dX2_execute_74 : decode cX2_execute 74 = .ok (.ifCond .ne 14, 3) := dk_154 0 14 (dk_at dksX2_execute_3 3 rfl rfl)
theorem dX2_execute_77 : decode cX2_execute 77 = .ok (.aload_n 0, 1) := dk_42 (dk_at dksX2_execute_3 6 rfl rfl)
theorem dX2_execute_78 : decode cX2_execute 78 = .ok (.getfield 292, 3) := dk_180 1 36 (dk_at dksX2_execute_3 7 rfl rfl)
theorem dX2_execute_81 : decode cX2_execute 81 = .ok (.aload_n 0, 1) := dk_42 (dk_at dksX2_execute_3 10 rfl rfl)
theorem dX2_execute_82 : decode cX2_execute 82 = .ok (.getfield 290, 3) := dk_180 1 34 (dk_at dksX2_execute_3 11 rfl rfl)
theorem dX2_execute_85 : decode cX2_execute 85 = .ok (.if_icmp .ge 17, 3) := dk_162 0 17 (dk_at dksX2_execute_3 14 rfl rfl)
theorem dX2_execute_88 : decode cX2_execute 88 = .ok (.aload_n 0, 1) := dk_42 (dk_at dksX2_execute_3 17 rfl rfl)
theorem dX2_execute_89 : decode cX2_execute 89 = .ok (.iconst 0, 1) := dk_3 (dk_at dksX2_execute_3 18 rfl rfl)
theorem dX2_execute_90 : decode cX2_execute 90 = .ok (.putfield 290, 3) := dk_181 1 34 (dk_at dksX2_execute_3 19 rfl rfl)
theorem dX2_execute_93 : decode cX2_execute 93 = .ok (.sipush (-200), 3) := dk_17 255 56 (dk_at dksX2_execute_4 0 rfl rfl)
theorem dX2_execute_96 : decode cX2_execute 96 = .ok (.aload_n 0, 1) := dk_42 (dk_at dksX2_execute_4 3 rfl rfl)
theorem dX2_execute_97 : decode cX2_execute 97 = .ok (.getfield 292, 3) := dk_180 1 36 (dk_at dksX2_execute_4 4 rfl rfl)
theorem dX2_execute_100 : decode cX2_execute 100 = .ok (.isub, 1) := dk_100 (dk_at dksX2_execute_4 7 rfl rfl)
theorem dX2_execute_101 : decode cX2_execute 101 = .ok (.ireturn, 1) := dk_172 (dk_at dksX2_execute_4 8 rfl rfl)
theorem dX2_execute_102 : decode cX2_execute 102 = .ok (.aload_n 0, 1) := dk_42 (dk_at dksX2_execute_4 9 rfl rfl)
theorem dX2_execute_103 : decode cX2_execute 103 = .ok (.getfield 9, 3) := dk_180 0 9 (dk_at dksX2_execute_4 10 rfl rfl)
theorem dX2_execute_106 : decode cX2_execute 106 = .ok (.iconst 0, 1) := dk_3 (dk_at dksX2_execute_4 13 rfl rfl)
theorem dX2_execute_107 : decode cX2_execute 107 = .ok (.aload_n 0, 1) := dk_42 (dk_at dksX2_execute_4 14 rfl rfl)
theorem dX2_execute_108 : decode cX2_execute 108 = .ok (.getfield 19, 3) := dk_180 0 19 (dk_at dksX2_execute_4 15 rfl rfl)
theorem dX2_execute_111 : decode cX2_execute 111 = .ok (.iconst 0, 1) := dk_3 (dk_at dksX2_execute_4 18 rfl rfl)
theorem dX2_execute_112 : decode cX2_execute 112 = .ok (.sipush 298, 3) := dk_17 1 42 (dk_at dksX2_execute_4 19 rfl rfl)
theorem dX2_execute_115 : decode cX2_execute 115 = .ok (.invokestatic 53, 3) := dk_184 0 53 (dk_at dksX2_execute_5 0 rfl rfl)
theorem dX2_execute_118 : decode cX2_execute 118 = .ok (.aload_n 0, 1) := dk_42 (dk_at dksX2_execute_5 3 rfl rfl)
theorem dX2_execute_119 : decode cX2_execute 119 = .ok (.iconst 0, 1) := dk_3 (dk_at dksX2_execute_5 4 rfl rfl)
theorem dX2_execute_120 : decode cX2_execute 120 = .ok (.putfield 292, 3) := dk_181 1 36 (dk_at dksX2_execute_5 5 rfl rfl)
theorem dX2_execute_123 : decode cX2_execute 123 = .ok (.aload_n 0, 1) := dk_42 (dk_at dksX2_execute_5 8 rfl rfl)
theorem dX2_execute_124 : decode cX2_execute 124 = .ok (.iconst 1, 1) := dk_4 (dk_at dksX2_execute_5 9 rfl rfl)
theorem dX2_execute_125 : decode cX2_execute 125 = .ok (.putfield 71, 3) := dk_181 0 71 (dk_at dksX2_execute_5 10 rfl rfl)
theorem dX2_execute_128 : decode cX2_execute 128 = .ok (.iconst 0, 1) := dk_3 (dk_at dksX2_execute_5 13 rfl rfl)
theorem dX2_execute_129 : decode cX2_execute 129 = .ok (.istore_n 3, 1) := dk_62 (dk_at dksX2_execute_5 14 rfl rfl)
theorem dX2_execute_130 : decode cX2_execute 130 = .ok (.iload_n 3, 1) := dk_29 (dk_at dksX2_execute_5 15 rfl rfl)
theorem dX2_execute_131 : decode cX2_execute 131 = .ok (.iload_n 1, 1) := dk_27 (dk_at dksX2_execute_5 16 rfl rfl)
theorem dX2_execute_132 : decode cX2_execute 132 = .ok (.if_icmp .ge 27, 3) := dk_162 0 27 (dk_at dksX2_execute_5 17 rfl rfl)
theorem dX2_execute_135 : decode cX2_execute 135 = .ok (.aload_n 0, 1) := dk_42 (dk_at dksX2_execute_5 20 rfl rfl)
theorem dX2_execute_136 : decode cX2_execute 136 = .ok (.iconst 1, 1) := dk_4 (dk_at dksX2_execute_5 21 rfl rfl)
theorem dX2_execute_137 : decode cX2_execute 137 = .ok (.invokevirtual 359, 3) := dk_182 1 103 (dk_at dksX2_execute_6 0 rfl rfl)
theorem dX2_execute_140 : decode cX2_execute 140 = .ok (.ifCond .lt 19, 3) := dk_155 0 19 (dk_at dksX2_execute_6 3 rfl rfl)
theorem dX2_execute_143 : decode cX2_execute 143 = .ok (.aload_n 0, 1) := dk_42 (dk_at dksX2_execute_6 6 rfl rfl)
theorem dX2_execute_144 : decode cX2_execute 144 = .ok (.dup, 1) := dk_89 (dk_at dksX2_execute_6 7 rfl rfl)
theorem dX2_execute_145 : decode cX2_execute 145 = .ok (.getfield 292, 3) := dk_180 1 36 (dk_at dksX2_execute_6 8 rfl rfl)
theorem dX2_execute_148 : decode cX2_execute 148 = .ok (.iconst 1, 1) := dk_4 (dk_at dksX2_execute_6 11 rfl rfl)
theorem dX2_execute_149 : decode cX2_execute 149 = .ok (.iadd, 1) := dk_96 (dk_at dksX2_execute_6 12 rfl rfl)
theorem dX2_execute_150 : decode cX2_execute 150 = .ok (.putfield 292, 3) := dk_181 1 36 (dk_at dksX2_execute_6 13 rfl rfl)
theorem dX2_execute_153 : decode cX2_execute 153 = .ok (.iinc 3 1, 3) := dk_132 3 1 (dk_at dksX2_execute_6 16 rfl rfl)
theorem dX2_execute_156 : decode cX2_execute 156 = .ok (.goto (-26), 3) := dk_167 255 230 (dk_at dksX2_execute_6 19 rfl rfl)
theorem dX2_execute_159 : decode cX2_execute 159 = .ok (.aload_n 0, 1) := dk_42 (dk_at dksX2_execute_6 22 rfl rfl)
theorem dX2_execute_160 : decode cX2_execute 160 = .ok (.iconst 0, 1) := dk_3 (dk_at dksX2_execute_6 23 rfl rfl)
theorem dX2_execute_161 : decode cX2_execute 161 = .ok (.putfield 71, 3) := dk_181 0 71 (dk_at dksX2_execute_7 0 rfl rfl)
theorem dX2_execute_164 : decode cX2_execute 164 = .ok (.aload_n 0, 1) := dk_42 (dk_at dksX2_execute_7 3 rfl rfl)
theorem dX2_execute_165 : decode cX2_execute 165 = .ok (.iconst 0, 1) := dk_3 (dk_at dksX2_execute_7 4 rfl rfl)
theorem dX2_execute_166 : decode cX2_execute 166 = .ok (.putfield 290, 3) := dk_181 1 34 (dk_at dksX2_execute_7 5 rfl rfl)
theorem dX2_execute_169 : decode cX2_execute 169 = .ok (.iload_n 3, 1) := dk_29 (dk_at dksX2_execute_7 8 rfl rfl)
theorem dX2_execute_170 : decode cX2_execute 170 = .ok (.iload_n 1, 1) := dk_27 (dk_at dksX2_execute_7 9 rfl rfl)
theorem dX2_execute_171 : decode cX2_execute 171 = .ok (.if_icmp .ge 25, 3) := dk_162 0 25 (dk_at dksX2_execute_7 10 rfl rfl)
theorem dX2_execute_174 : decode cX2_execute 174 = .ok (.aload_n 0, 1) := dk_42 (dk_at dksX2_execute_7 13 rfl rfl)
theorem dX2_execute_175 : decode cX2_execute 175 = .ok (.getfield 19, 3) := dk_180 0 19 (dk_at dksX2_execute_7 14 rfl rfl)
theorem dX2_execute_178 : decode cX2_execute 178 = .ok (.iconst 0, 1) := dk_3 (dk_at dksX2_execute_7 17 rfl rfl)
theorem dX2_execute_179 : decode cX2_execute 179 = .ok (.aload_n 0, 1) := dk_42 (dk_at dksX2_execute_7 18 rfl rfl)
theorem dX2_execute_180 : decode cX2_execute 180 = .ok (.getfield 9, 3) := dk_180 0 9 (dk_at dksX2_execute_7 19 rfl rfl)
theorem dX2_execute_183 : decode cX2_execute 183 = .ok (.iconst 0, 1) := dk_3 (dk_at dksX2_execute_7 22 rfl rfl)
theorem dX2_execute_184 : decode cX2_execute 184 = .ok (.sipush 298, 3) := dk_17 1 42 (dk_at dksX2_execute_8 0 rfl rfl)
theorem dX2_execute_187 : decode cX2_execute 187 = .ok (.invokestatic 53, 3) := dk_184 0 53 (dk_at dksX2_execute_8 3 rfl rfl)
theorem dX2_execute_190 : decode cX2_execute 190 = .ok (.sipush (-300), 3) := dk_17 254 212 (dk_at dksX2_execute_8 6 rfl rfl)
theorem dX2_execute_193 : decode cX2_execute 193 = .ok (.iload_n 3, 1) := dk_29 (dk_at dksX2_execute_8 9 rfl rfl)
theorem dX2_execute_194 : decode cX2_execute 194 = .ok (.isub, 1) := dk_100 (dk_at dksX2_execute_8 10 rfl rfl)
theorem dX2_execute_195 : decode cX2_execute 195 = .ok (.ireturn, 1) := dk_172 (dk_at dksX2_execute_8 11 rfl rfl)
theorem dX2_execute_196 : decode cX2_execute 196 = .ok (.aload_n 0, 1) := dk_42 (dk_at dksX2_execute_8 12 rfl rfl)
theorem dX2_execute_197 : decode cX2_execute 197 = .ok (.aload_n 0, 1) := dk_42 (dk_at dksX2_execute_8 13 rfl rfl)
theorem dX2_execute_198 : decode cX2_execute 198 = .ok (.getfield 19, 3) := dk_180 0 19 (dk_at dksX2_execute_8 14 rfl rfl)
theorem dX2_execute_201 : decode cX2_execute 201 = .ok (.invokevirtual 75, 3) := dk_182 0 75 (dk_at dksX2_execute_8 17 rfl rfl)
theorem dX2_execute_204 : decode cX2_execute 204 = .ok (.iload_n 1, 1) := dk_27 (dk_at dksX2_execute_8 20 rfl rfl)
theorem dX2_execute_205 : decode cX2_execute 205 = .ok (.ireturn, 1) := dk_172 (dk_at dksX2_execute_8 21 rfl rfl)
abbrev cX2_command : ByteArray := prog_12_method_96_code
def yX2_command : MethodName := ⟨RX2, "command", "(Z)I"⟩
def dkwX2_command_5 : List UInt8 := [167, 255, 233, 42, 180, 1, 66, 154, 0, 7, 27, 154, 0, 7, 3, 167, 0, 8, 42, 29, 182, 1, 100, 172]
abbrev dktX2_command_5 : List UInt8 := dkwX2_command_5 ++ []
def dkwX2_command_4 : List UInt8 := [21, 5, 21, 4, 162, 0, 22, 42, 180, 1, 66, 154, 0, 15, 42, 21, 5, 182, 1, 97, 132, 5, 1]
abbrev dktX2_command_4 : List UInt8 := dkwX2_command_4 ++ dktX2_command_5
def dkwX2_command_3 : List UInt8 := [160, 0, 7, 4, 167, 0, 14, 29, 16, 7, 164, 0, 7, 3, 167, 0, 4, 5, 54, 4, 3, 54, 5]
abbrev dktX2_command_3 : List UInt8 := dkwX2_command_3 ++ dktX2_command_4
def dkwX2_command_2 : List UInt8 := [4, 181, 1, 66, 3, 172, 29, 154, 0, 7, 7, 167, 0, 29, 29, 4, 159, 0, 9, 29, 16, 6]
abbrev dktX2_command_2 : List UInt8 := dkwX2_command_2 ++ dktX2_command_3
def dkwX2_command_1 : List UInt8 := [4, 96, 181, 1, 36, 167, 255, 232, 42, 28, 182, 1, 94, 62, 29, 156, 0, 15, 42, 28, 181, 1, 36, 42]
abbrev dktX2_command_1 : List UInt8 := dkwX2_command_1 ++ dktX2_command_2
def dkwX2_command_0 : List UInt8 := [42, 180, 1, 36, 61, 42, 182, 1, 63, 16, 97, 16, 122, 184, 0, 59, 153, 0, 16, 42, 89, 180, 1, 36]
abbrev dktX2_command_0 : List UInt8 := dkwX2_command_0 ++ dktX2_command_1
theorem dksX2_command_0 : cX2_command.data.toList.drop 0 = dktX2_command_0 := by decide +kernel
theorem dksX2_command_1 : cX2_command.data.toList.drop 24 = dktX2_command_1 := dk_seg dksX2_command_0 24 rfl rfl
theorem dksX2_command_2 : cX2_command.data.toList.drop 48 = dktX2_command_2 := dk_seg dksX2_command_1 24 rfl rfl
theorem dksX2_command_3 : cX2_command.data.toList.drop 70 = dktX2_command_3 := dk_seg dksX2_command_2 22 rfl rfl
theorem dksX2_command_4 : cX2_command.data.toList.drop 93 = dktX2_command_4 := dk_seg dksX2_command_3 23 rfl rfl
theorem dksX2_command_5 : cX2_command.data.toList.drop 116 = dktX2_command_5 := dk_seg dksX2_command_4 23 rfl rfl
theorem dX2_command_0 : decode cX2_command 0 = .ok (.aload_n 0, 1) := dk_42 (dk_at dksX2_command_0 0 rfl rfl)
theorem dX2_command_1 : decode cX2_command 1 = .ok (.getfield 292, 3) := dk_180 1 36 (dk_at dksX2_command_0 1 rfl rfl)
theorem dX2_command_4 : decode cX2_command 4 = .ok (.istore_n 2, 1) := dk_61 (dk_at dksX2_command_0 4 rfl rfl)
theorem dX2_command_5 : decode cX2_command 5 = .ok (.aload_n 0, 1) := dk_42 (dk_at dksX2_command_0 5 rfl rfl)
theorem dX2_command_6 : decode cX2_command 6 = .ok (.invokevirtual 319, 3) := dk_182 1 63 (dk_at dksX2_command_0 6 rfl rfl)
theorem dX2_command_9 : decode cX2_command 9 = .ok (.bipush 97, 2) := dk_16 97 (dk_at dksX2_command_0 9 rfl rfl)
theorem dX2_command_11 : decode cX2_command 11 = .ok (.bipush 122, 2) := dk_16 122 (dk_at dksX2_command_0 11 rfl rfl)
theorem dX2_command_13 : decode cX2_command 13 = .ok (.invokestatic 59, 3) := dk_184 0 59 (dk_at dksX2_command_0 13 rfl rfl)
theorem dX2_command_16 : decode cX2_command 16 = .ok (.ifCond .eq 16, 3) := dk_153 0 16 (dk_at dksX2_command_0 16 rfl rfl)
theorem dX2_command_19 : decode cX2_command 19 = .ok (.aload_n 0, 1) := dk_42 (dk_at dksX2_command_0 19 rfl rfl)
theorem dX2_command_20 : decode cX2_command 20 = .ok (.dup, 1) := dk_89 (dk_at dksX2_command_0 20 rfl rfl)
theorem dX2_command_21 : decode cX2_command 21 = .ok (.getfield 292, 3) := dk_180 1 36 (dk_at dksX2_command_0 21 rfl rfl)
theorem dX2_command_24 : decode cX2_command 24 = .ok (.iconst 1, 1) := dk_4 (dk_at dksX2_command_1 0 rfl rfl)
theorem dX2_command_25 : decode cX2_command 25 = .ok (.iadd, 1) := dk_96 (dk_at dksX2_command_1 1 rfl rfl)
theorem dX2_command_26 : decode cX2_command 26 = .ok (.putfield 292, 3) := dk_181 1 36 (dk_at dksX2_command_1 2 rfl rfl)
theorem dX2_command_29 : decode cX2_command 29 = .ok (.goto (-24), 3) := dk_167 255 232 (dk_at dksX2_command_1 5 rfl rfl)
theorem dX2_command_32 : decode cX2_command 32 = .ok (.aload_n 0, 1) := dk_42 (dk_at dksX2_command_1 8 rfl rfl)
theorem dX2_command_33 : decode cX2_command 33 = .ok (.iload_n 2, 1) := dk_28 (dk_at dksX2_command_1 9 rfl rfl)
theorem dX2_command_34 : decode cX2_command 34 = .ok (.invokevirtual 350, 3) := dk_182 1 94 (dk_at dksX2_command_1 10 rfl rfl)
theorem dX2_command_37 : decode cX2_command 37 = .ok (.istore_n 3, 1) := dk_62 (dk_at dksX2_command_1 13 rfl rfl)
theorem dX2_command_38 : decode cX2_command 38 = .ok (.iload_n 3, 1) := dk_29 (dk_at dksX2_command_1 14 rfl rfl)
theorem dX2_command_39 : decode cX2_command 39 = .ok (.ifCond .ge 15, 3) := dk_156 0 15 (dk_at dksX2_command_1 15 rfl rfl)
theorem dX2_command_42 : decode cX2_command 42 = .ok (.aload_n 0, 1) := dk_42 (dk_at dksX2_command_1 18 rfl rfl)
theorem dX2_command_43 : decode cX2_command 43 = .ok (.iload_n 2, 1) := dk_28 (dk_at dksX2_command_1 19 rfl rfl)
theorem dX2_command_44 : decode cX2_command 44 = .ok (.putfield 292, 3) := dk_181 1 36 (dk_at dksX2_command_1 20 rfl rfl)
theorem dX2_command_47 : decode cX2_command 47 = .ok (.aload_n 0, 1) := dk_42 (dk_at dksX2_command_1 23 rfl rfl)
theorem dX2_command_48 : decode cX2_command 48 = .ok (.iconst 1, 1) := dk_4 (dk_at dksX2_command_2 0 rfl rfl)
theorem dX2_command_49 : decode cX2_command 49 = .ok (.putfield 322, 3) := dk_181 1 66 (dk_at dksX2_command_2 1 rfl rfl)
theorem dX2_command_52 : decode cX2_command 52 = .ok (.iconst 0, 1) := dk_3 (dk_at dksX2_command_2 4 rfl rfl)
theorem dX2_command_53 : decode cX2_command 53 = .ok (.ireturn, 1) := dk_172 (dk_at dksX2_command_2 5 rfl rfl)
theorem dX2_command_54 : decode cX2_command 54 = .ok (.iload_n 3, 1) := dk_29 (dk_at dksX2_command_2 6 rfl rfl)
theorem dX2_command_55 : decode cX2_command 55 = .ok (.ifCond .ne 7, 3) := dk_154 0 7 (dk_at dksX2_command_2 7 rfl rfl)
theorem dX2_command_58 : decode cX2_command 58 = .ok (.iconst 4, 1) := dk_7 (dk_at dksX2_command_2 10 rfl rfl)
theorem dX2_command_59 : decode cX2_command 59 = .ok (.goto 29, 3) := dk_167 0 29 (dk_at dksX2_command_2 11 rfl rfl)
theorem dX2_command_62 : decode cX2_command 62 = .ok (.iload_n 3, 1) := dk_29 (dk_at dksX2_command_2 14 rfl rfl)
theorem dX2_command_63 : decode cX2_command 63 = .ok (.iconst 1, 1) := dk_4 (dk_at dksX2_command_2 15 rfl rfl)
theorem dX2_command_64 : decode cX2_command 64 = .ok (.if_icmp .eq 9, 3) := dk_159 0 9 (dk_at dksX2_command_2 16 rfl rfl)
theorem dX2_command_67 : decode cX2_command 67 = .ok (.iload_n 3, 1) := dk_29 (dk_at dksX2_command_2 19 rfl rfl)
theorem dX2_command_68 : decode cX2_command 68 = .ok (.bipush 6, 2) := dk_16 6 (dk_at dksX2_command_2 20 rfl rfl)
theorem dX2_command_70 : decode cX2_command 70 = .ok (.if_icmp .ne 7, 3) := dk_160 0 7 (dk_at dksX2_command_3 0 rfl rfl)
theorem dX2_command_73 : decode cX2_command 73 = .ok (.iconst 1, 1) := dk_4 (dk_at dksX2_command_3 3 rfl rfl)
theorem dX2_command_74 : decode cX2_command 74 = .ok (.goto 14, 3) := dk_167 0 14 (dk_at dksX2_command_3 4 rfl rfl)
theorem dX2_command_77 : decode cX2_command 77 = .ok (.iload_n 3, 1) := dk_29 (dk_at dksX2_command_3 7 rfl rfl)
theorem dX2_command_78 : decode cX2_command 78 = .ok (.bipush 7, 2) := dk_16 7 (dk_at dksX2_command_3 8 rfl rfl)
theorem dX2_command_80 : decode cX2_command 80 = .ok (.if_icmp .le 7, 3) := dk_164 0 7 (dk_at dksX2_command_3 10 rfl rfl)
theorem dX2_command_83 : decode cX2_command 83 = .ok (.iconst 0, 1) := dk_3 (dk_at dksX2_command_3 13 rfl rfl)
theorem dX2_command_84 : decode cX2_command 84 = .ok (.goto 4, 3) := dk_167 0 4 (dk_at dksX2_command_3 14 rfl rfl)
theorem dX2_command_87 : decode cX2_command 87 = .ok (.iconst 2, 1) := dk_5 (dk_at dksX2_command_3 17 rfl rfl)
theorem dX2_command_88 : decode cX2_command 88 = .ok (.istore 4, 2) := dk_54 4 (dk_at dksX2_command_3 18 rfl rfl)
theorem dX2_command_90 : decode cX2_command 90 = .ok (.iconst 0, 1) := dk_3 (dk_at dksX2_command_3 20 rfl rfl)
theorem dX2_command_91 : decode cX2_command 91 = .ok (.istore 5, 2) := dk_54 5 (dk_at dksX2_command_3 21 rfl rfl)
theorem dX2_command_93 : decode cX2_command 93 = .ok (.iload 5, 2) := dk_21 5 (dk_at dksX2_command_4 0 rfl rfl)
theorem dX2_command_95 : decode cX2_command 95 = .ok (.iload 4, 2) := dk_21 4 (dk_at dksX2_command_4 2 rfl rfl)
theorem dX2_command_97 : decode cX2_command 97 = .ok (.if_icmp .ge 22, 3) := dk_162 0 22 (dk_at dksX2_command_4 4 rfl rfl)
theorem dX2_command_100 : decode cX2_command 100 = .ok (.aload_n 0, 1) := dk_42 (dk_at dksX2_command_4 7 rfl rfl)
theorem dX2_command_101 : decode cX2_command 101 = .ok (.getfield 322, 3) := dk_180 1 66 (dk_at dksX2_command_4 8 rfl rfl)
theorem dX2_command_104 : decode cX2_command 104 = .ok (.ifCond .ne 15, 3) := dk_154 0 15 (dk_at dksX2_command_4 11 rfl rfl)
theorem dX2_command_107 : decode cX2_command 107 = .ok (.aload_n 0, 1) := dk_42 (dk_at dksX2_command_4 14 rfl rfl)
theorem dX2_command_108 : decode cX2_command 108 = .ok (.iload 5, 2) := dk_21 5 (dk_at dksX2_command_4 15 rfl rfl)
theorem dX2_command_110 : decode cX2_command 110 = .ok (.invokevirtual 353, 3) := dk_182 1 97 (dk_at dksX2_command_4 17 rfl rfl)
theorem dX2_command_113 : decode cX2_command 113 = .ok (.iinc 5 1, 3) := dk_132 5 1 (dk_at dksX2_command_4 20 rfl rfl)
theorem dX2_command_116 : decode cX2_command 116 = .ok (.goto (-23), 3) := dk_167 255 233 (dk_at dksX2_command_5 0 rfl rfl)
theorem dX2_command_119 : decode cX2_command 119 = .ok (.aload_n 0, 1) := dk_42 (dk_at dksX2_command_5 3 rfl rfl)
theorem dX2_command_120 : decode cX2_command 120 = .ok (.getfield 322, 3) := dk_180 1 66 (dk_at dksX2_command_5 4 rfl rfl)
theorem dX2_command_123 : decode cX2_command 123 = .ok (.ifCond .ne 7, 3) := dk_154 0 7 (dk_at dksX2_command_5 7 rfl rfl)
theorem dX2_command_126 : decode cX2_command 126 = .ok (.iload_n 1, 1) := dk_27 (dk_at dksX2_command_5 10 rfl rfl)
theorem dX2_command_127 : decode cX2_command 127 = .ok (.ifCond .ne 7, 3) := dk_154 0 7 (dk_at dksX2_command_5 11 rfl rfl)
theorem dX2_command_130 : decode cX2_command 130 = .ok (.iconst 0, 1) := dk_3 (dk_at dksX2_command_5 14 rfl rfl)
theorem dX2_command_131 : decode cX2_command 131 = .ok (.goto 8, 3) := dk_167 0 8 (dk_at dksX2_command_5 15 rfl rfl)
theorem dX2_command_134 : decode cX2_command 134 = .ok (.aload_n 0, 1) := dk_42 (dk_at dksX2_command_5 18 rfl rfl)
theorem dX2_command_135 : decode cX2_command 135 = .ok (.iload_n 3, 1) := dk_29 (dk_at dksX2_command_5 19 rfl rfl)
theorem dX2_command_136 : decode cX2_command 136 = .ok (.invokevirtual 356, 3) := dk_182 1 100 (dk_at dksX2_command_5 20 rfl rfl)
theorem dX2_command_139 : decode cX2_command 139 = .ok (.ireturn, 1) := dk_172 (dk_at dksX2_command_5 23 rfl rfl)
abbrev cX2_here : ByteArray := prog_12_method_91_code
def yX2_here : MethodName := ⟨RX2, "here", "()I"⟩
def dkwX2_here_1 : List UInt8 := [172]
abbrev dktX2_here_1 : List UInt8 := dkwX2_here_1 ++ []
def dkwX2_here_0 : List UInt8 := [42, 180, 1, 36, 42, 180, 1, 34, 162, 0, 15, 42, 180, 0, 44, 42, 180, 1, 36, 52, 167, 0, 4, 3]
abbrev dktX2_here_0 : List UInt8 := dkwX2_here_0 ++ dktX2_here_1
theorem dksX2_here_0 : cX2_here.data.toList.drop 0 = dktX2_here_0 := by decide +kernel
theorem dksX2_here_1 : cX2_here.data.toList.drop 24 = dktX2_here_1 := dk_seg dksX2_here_0 24 rfl rfl
theorem dX2_here_0 : decode cX2_here 0 = .ok (.aload_n 0, 1) := dk_42 (dk_at dksX2_here_0 0 rfl rfl)
theorem dX2_here_1 : decode cX2_here 1 = .ok (.getfield 292, 3) := dk_180 1 36 (dk_at dksX2_here_0 1 rfl rfl)
theorem dX2_here_4 : decode cX2_here 4 = .ok (.aload_n 0, 1) := dk_42 (dk_at dksX2_here_0 4 rfl rfl)
theorem dX2_here_5 : decode cX2_here 5 = .ok (.getfield 290, 3) := dk_180 1 34 (dk_at dksX2_here_0 5 rfl rfl)
theorem dX2_here_8 : decode cX2_here 8 = .ok (.if_icmp .ge 15, 3) := dk_162 0 15 (dk_at dksX2_here_0 8 rfl rfl)
theorem dX2_here_11 : decode cX2_here 11 = .ok (.aload_n 0, 1) := dk_42 (dk_at dksX2_here_0 11 rfl rfl)
theorem dX2_here_12 : decode cX2_here 12 = .ok (.getfield 44, 3) := dk_180 0 44 (dk_at dksX2_here_0 12 rfl rfl)
theorem dX2_here_15 : decode cX2_here 15 = .ok (.aload_n 0, 1) := dk_42 (dk_at dksX2_here_0 15 rfl rfl)
theorem dX2_here_16 : decode cX2_here 16 = .ok (.getfield 292, 3) := dk_180 1 36 (dk_at dksX2_here_0 16 rfl rfl)
theorem dX2_here_19 : decode cX2_here 19 = .ok (.caload, 1) := dk_52 (dk_at dksX2_here_0 19 rfl rfl)
theorem dX2_here_20 : decode cX2_here 20 = .ok (.goto 4, 3) := dk_167 0 4 (dk_at dksX2_here_0 20 rfl rfl)
theorem dX2_here_23 : decode cX2_here 23 = .ok (.iconst 0, 1) := dk_3 (dk_at dksX2_here_0 23 rfl rfl)
theorem dX2_here_24 : decode cX2_here 24 = .ok (.ireturn, 1) := dk_172 (dk_at dksX2_here_1 0 rfl rfl)
abbrev cX2_wordOf : ByteArray := prog_12_method_93_code
def yX2_wordOf : MethodName := ⟨RX2, "wordOf", "(I)I"⟩
def dkwX2_wordOf_4 : List UInt8 := [167, 0, 4, 29, 62, 132, 4, 1, 167, 255, 227, 29, 172]
abbrev dktX2_wordOf_4 : List UInt8 := dkwX2_wordOf_4 ++ []
def dkwX2_wordOf_3 : List UInt8 := [3, 54, 4, 21, 4, 44, 190, 162, 0, 28, 42, 27, 44, 21, 4, 50, 182, 1, 59, 153, 0, 8, 21, 4]
abbrev dktX2_wordOf_3 : List UInt8 := dkwX2_wordOf_3 ++ dktX2_wordOf_4
def dkwX2_wordOf_2 : List UInt8 := [89, 16, 7, 19, 1, 53, 83, 89, 16, 8, 19, 1, 55, 83, 89, 16, 9, 19, 1, 57, 83, 77, 2, 62]
abbrev dktX2_wordOf_2 : List UInt8 := dkwX2_wordOf_2 ++ dktX2_wordOf_3
def dkwX2_wordOf_1 : List UInt8 := [6, 19, 1, 45, 83, 89, 7, 19, 1, 47, 83, 89, 8, 19, 1, 49, 83, 89, 16, 6, 19, 1, 51, 83]
abbrev dktX2_wordOf_1 : List UInt8 := dkwX2_wordOf_1 ++ dktX2_wordOf_2
def dkwX2_wordOf_0 : List UInt8 := [16, 10, 189, 1, 23, 89, 3, 19, 1, 39, 83, 89, 4, 19, 1, 41, 83, 89, 5, 19, 1, 43, 83, 89]
abbrev dktX2_wordOf_0 : List UInt8 := dkwX2_wordOf_0 ++ dktX2_wordOf_1
theorem dksX2_wordOf_0 : cX2_wordOf.data.toList.drop 0 = dktX2_wordOf_0 := by decide +kernel
theorem dksX2_wordOf_1 : cX2_wordOf.data.toList.drop 24 = dktX2_wordOf_1 := dk_seg dksX2_wordOf_0 24 rfl rfl
theorem dksX2_wordOf_2 : cX2_wordOf.data.toList.drop 48 = dktX2_wordOf_2 := dk_seg dksX2_wordOf_1 24 rfl rfl
theorem dksX2_wordOf_3 : cX2_wordOf.data.toList.drop 72 = dktX2_wordOf_3 := dk_seg dksX2_wordOf_2 24 rfl rfl
theorem dksX2_wordOf_4 : cX2_wordOf.data.toList.drop 96 = dktX2_wordOf_4 := dk_seg dksX2_wordOf_3 24 rfl rfl
theorem dX2_wordOf_0 : decode cX2_wordOf 0 = .ok (.bipush 10, 2) := dk_16 10 (dk_at dksX2_wordOf_0 0 rfl rfl)
theorem dX2_wordOf_2 : decode cX2_wordOf 2 = .ok (.anewarray 279, 3) := dk_189 1 23 (dk_at dksX2_wordOf_0 2 rfl rfl)
theorem dX2_wordOf_5 : decode cX2_wordOf 5 = .ok (.dup, 1) := dk_89 (dk_at dksX2_wordOf_0 5 rfl rfl)
theorem dX2_wordOf_6 : decode cX2_wordOf 6 = .ok (.iconst 0, 1) := dk_3 (dk_at dksX2_wordOf_0 6 rfl rfl)
theorem dX2_wordOf_7 : decode cX2_wordOf 7 = .ok (.ldc_w 295, 3) := dk_19 1 39 (dk_at dksX2_wordOf_0 7 rfl rfl)
theorem dX2_wordOf_10 : decode cX2_wordOf 10 = .ok (.aastore, 1) := dk_83 (dk_at dksX2_wordOf_0 10 rfl rfl)
theorem dX2_wordOf_11 : decode cX2_wordOf 11 = .ok (.dup, 1) := dk_89 (dk_at dksX2_wordOf_0 11 rfl rfl)
theorem dX2_wordOf_12 : decode cX2_wordOf 12 = .ok (.iconst 1, 1) := dk_4 (dk_at dksX2_wordOf_0 12 rfl rfl)
theorem dX2_wordOf_13 : decode cX2_wordOf 13 = .ok (.ldc_w 297, 3) := dk_19 1 41 (dk_at dksX2_wordOf_0 13 rfl rfl)
theorem dX2_wordOf_16 : decode cX2_wordOf 16 = .ok (.aastore, 1) := dk_83 (dk_at dksX2_wordOf_0 16 rfl rfl)
theorem dX2_wordOf_17 : decode cX2_wordOf 17 = .ok (.dup, 1) := dk_89 (dk_at dksX2_wordOf_0 17 rfl rfl)
theorem dX2_wordOf_18 : decode cX2_wordOf 18 = .ok (.iconst 2, 1) := dk_5 (dk_at dksX2_wordOf_0 18 rfl rfl)
theorem dX2_wordOf_19 : decode cX2_wordOf 19 = .ok (.ldc_w 299, 3) := dk_19 1 43 (dk_at dksX2_wordOf_0 19 rfl rfl)
theorem dX2_wordOf_22 : decode cX2_wordOf 22 = .ok (.aastore, 1) := dk_83 (dk_at dksX2_wordOf_0 22 rfl rfl)
theorem dX2_wordOf_23 : decode cX2_wordOf 23 = .ok (.dup, 1) := dk_89 (dk_at dksX2_wordOf_0 23 rfl rfl)
theorem dX2_wordOf_24 : decode cX2_wordOf 24 = .ok (.iconst 3, 1) := dk_6 (dk_at dksX2_wordOf_1 0 rfl rfl)
theorem dX2_wordOf_25 : decode cX2_wordOf 25 = .ok (.ldc_w 301, 3) := dk_19 1 45 (dk_at dksX2_wordOf_1 1 rfl rfl)
theorem dX2_wordOf_28 : decode cX2_wordOf 28 = .ok (.aastore, 1) := dk_83 (dk_at dksX2_wordOf_1 4 rfl rfl)
theorem dX2_wordOf_29 : decode cX2_wordOf 29 = .ok (.dup, 1) := dk_89 (dk_at dksX2_wordOf_1 5 rfl rfl)
theorem dX2_wordOf_30 : decode cX2_wordOf 30 = .ok (.iconst 4, 1) := dk_7 (dk_at dksX2_wordOf_1 6 rfl rfl)
theorem dX2_wordOf_31 : decode cX2_wordOf 31 = .ok (.ldc_w 303, 3) := dk_19 1 47 (dk_at dksX2_wordOf_1 7 rfl rfl)
theorem dX2_wordOf_34 : decode cX2_wordOf 34 = .ok (.aastore, 1) := dk_83 (dk_at dksX2_wordOf_1 10 rfl rfl)
theorem dX2_wordOf_35 : decode cX2_wordOf 35 = .ok (.dup, 1) := dk_89 (dk_at dksX2_wordOf_1 11 rfl rfl)
theorem dX2_wordOf_36 : decode cX2_wordOf 36 = .ok (.iconst 5, 1) := dk_8 (dk_at dksX2_wordOf_1 12 rfl rfl)
theorem dX2_wordOf_37 : decode cX2_wordOf 37 = .ok (.ldc_w 305, 3) := dk_19 1 49 (dk_at dksX2_wordOf_1 13 rfl rfl)
theorem dX2_wordOf_40 : decode cX2_wordOf 40 = .ok (.aastore, 1) := dk_83 (dk_at dksX2_wordOf_1 16 rfl rfl)
theorem dX2_wordOf_41 : decode cX2_wordOf 41 = .ok (.dup, 1) := dk_89 (dk_at dksX2_wordOf_1 17 rfl rfl)
theorem dX2_wordOf_42 : decode cX2_wordOf 42 = .ok (.bipush 6, 2) := dk_16 6 (dk_at dksX2_wordOf_1 18 rfl rfl)
theorem dX2_wordOf_44 : decode cX2_wordOf 44 = .ok (.ldc_w 307, 3) := dk_19 1 51 (dk_at dksX2_wordOf_1 20 rfl rfl)
theorem dX2_wordOf_47 : decode cX2_wordOf 47 = .ok (.aastore, 1) := dk_83 (dk_at dksX2_wordOf_1 23 rfl rfl)
theorem dX2_wordOf_48 : decode cX2_wordOf 48 = .ok (.dup, 1) := dk_89 (dk_at dksX2_wordOf_2 0 rfl rfl)
theorem dX2_wordOf_49 : decode cX2_wordOf 49 = .ok (.bipush 7, 2) := dk_16 7 (dk_at dksX2_wordOf_2 1 rfl rfl)
theorem dX2_wordOf_51 : decode cX2_wordOf 51 = .ok (.ldc_w 309, 3) := dk_19 1 53 (dk_at dksX2_wordOf_2 3 rfl rfl)
theorem dX2_wordOf_54 : decode cX2_wordOf 54 = .ok (.aastore, 1) := dk_83 (dk_at dksX2_wordOf_2 6 rfl rfl)
theorem dX2_wordOf_55 : decode cX2_wordOf 55 = .ok (.dup, 1) := dk_89 (dk_at dksX2_wordOf_2 7 rfl rfl)
theorem dX2_wordOf_56 : decode cX2_wordOf 56 = .ok (.bipush 8, 2) := dk_16 8 (dk_at dksX2_wordOf_2 8 rfl rfl)
theorem dX2_wordOf_58 : decode cX2_wordOf 58 = .ok (.ldc_w 311, 3) := dk_19 1 55 (dk_at dksX2_wordOf_2 10 rfl rfl)
theorem dX2_wordOf_61 : decode cX2_wordOf 61 = .ok (.aastore, 1) := dk_83 (dk_at dksX2_wordOf_2 13 rfl rfl)
theorem dX2_wordOf_62 : decode cX2_wordOf 62 = .ok (.dup, 1) := dk_89 (dk_at dksX2_wordOf_2 14 rfl rfl)
theorem dX2_wordOf_63 : decode cX2_wordOf 63 = .ok (.bipush 9, 2) := dk_16 9 (dk_at dksX2_wordOf_2 15 rfl rfl)
theorem dX2_wordOf_65 : decode cX2_wordOf 65 = .ok (.ldc_w 313, 3) := dk_19 1 57 (dk_at dksX2_wordOf_2 17 rfl rfl)
theorem dX2_wordOf_68 : decode cX2_wordOf 68 = .ok (.aastore, 1) := dk_83 (dk_at dksX2_wordOf_2 20 rfl rfl)
theorem dX2_wordOf_69 : decode cX2_wordOf 69 = .ok (.astore_n 2, 1) := dk_77 (dk_at dksX2_wordOf_2 21 rfl rfl)
theorem dX2_wordOf_70 : decode cX2_wordOf 70 = .ok (.iconst (-1), 1) := dk_2 (dk_at dksX2_wordOf_2 22 rfl rfl)
theorem dX2_wordOf_71 : decode cX2_wordOf 71 = .ok (.istore_n 3, 1) := dk_62 (dk_at dksX2_wordOf_2 23 rfl rfl)
theorem dX2_wordOf_72 : decode cX2_wordOf 72 = .ok (.iconst 0, 1) := dk_3 (dk_at dksX2_wordOf_3 0 rfl rfl)
theorem dX2_wordOf_73 : decode cX2_wordOf 73 = .ok (.istore 4, 2) := dk_54 4 (dk_at dksX2_wordOf_3 1 rfl rfl)
theorem dX2_wordOf_75 : decode cX2_wordOf 75 = .ok (.iload 4, 2) := dk_21 4 (dk_at dksX2_wordOf_3 3 rfl rfl)
theorem dX2_wordOf_77 : decode cX2_wordOf 77 = .ok (.aload_n 2, 1) := dk_44 (dk_at dksX2_wordOf_3 5 rfl rfl)
theorem dX2_wordOf_78 : decode cX2_wordOf 78 = .ok (.arraylength, 1) := dk_190 (dk_at dksX2_wordOf_3 6 rfl rfl)
theorem dX2_wordOf_79 : decode cX2_wordOf 79 = .ok (.if_icmp .ge 28, 3) := dk_162 0 28 (dk_at dksX2_wordOf_3 7 rfl rfl)
theorem dX2_wordOf_82 : decode cX2_wordOf 82 = .ok (.aload_n 0, 1) := dk_42 (dk_at dksX2_wordOf_3 10 rfl rfl)
theorem dX2_wordOf_83 : decode cX2_wordOf 83 = .ok (.iload_n 1, 1) := dk_27 (dk_at dksX2_wordOf_3 11 rfl rfl)
theorem dX2_wordOf_84 : decode cX2_wordOf 84 = .ok (.aload_n 2, 1) := dk_44 (dk_at dksX2_wordOf_3 12 rfl rfl)
theorem dX2_wordOf_85 : decode cX2_wordOf 85 = .ok (.iload 4, 2) := dk_21 4 (dk_at dksX2_wordOf_3 13 rfl rfl)
theorem dX2_wordOf_87 : decode cX2_wordOf 87 = .ok (.aaload, 1) := dk_50 (dk_at dksX2_wordOf_3 15 rfl rfl)
theorem dX2_wordOf_88 : decode cX2_wordOf 88 = .ok (.invokevirtual 315, 3) := dk_182 1 59 (dk_at dksX2_wordOf_3 16 rfl rfl)
theorem dX2_wordOf_91 : decode cX2_wordOf 91 = .ok (.ifCond .eq 8, 3) := dk_153 0 8 (dk_at dksX2_wordOf_3 19 rfl rfl)
theorem dX2_wordOf_94 : decode cX2_wordOf 94 = .ok (.iload 4, 2) := dk_21 4 (dk_at dksX2_wordOf_3 22 rfl rfl)
theorem dX2_wordOf_96 : decode cX2_wordOf 96 = .ok (.goto 4, 3) := dk_167 0 4 (dk_at dksX2_wordOf_4 0 rfl rfl)
theorem dX2_wordOf_99 : decode cX2_wordOf 99 = .ok (.iload_n 3, 1) := dk_29 (dk_at dksX2_wordOf_4 3 rfl rfl)
theorem dX2_wordOf_100 : decode cX2_wordOf 100 = .ok (.istore_n 3, 1) := dk_62 (dk_at dksX2_wordOf_4 4 rfl rfl)
theorem dX2_wordOf_101 : decode cX2_wordOf 101 = .ok (.iinc 4 1, 3) := dk_132 4 1 (dk_at dksX2_wordOf_4 5 rfl rfl)
theorem dX2_wordOf_104 : decode cX2_wordOf 104 = .ok (.goto (-29), 3) := dk_167 255 227 (dk_at dksX2_wordOf_4 8 rfl rfl)
theorem dX2_wordOf_107 : decode cX2_wordOf 107 = .ok (.iload_n 3, 1) := dk_29 (dk_at dksX2_wordOf_4 11 rfl rfl)
theorem dX2_wordOf_108 : decode cX2_wordOf 108 = .ok (.ireturn, 1) := dk_172 (dk_at dksX2_wordOf_4 12 rfl rfl)
abbrev cX2_isWord : ByteArray := prog_12_method_92_code
def yX2_isWord : MethodName := ⟨RX2, "isWord", "(ILjava/lang/String;)Z"⟩
def dkwX2_isWord_2 : List UInt8 := [182, 1, 27, 160, 0, 7, 4, 167, 0, 4, 3, 62, 132, 4, 1, 167, 255, 216, 29, 172]
abbrev dktX2_isWord_2 : List UInt8 := dkwX2_isWord_2 ++ []
def dkwX2_isWord_1 : List UInt8 := [44, 182, 1, 22, 162, 0, 37, 29, 153, 0, 33, 42, 180, 0, 44, 27, 21, 4, 96, 52, 44, 21, 4]
abbrev dktX2_isWord_1 : List UInt8 := dkwX2_isWord_1 ++ dktX2_isWord_2
def dkwX2_isWord_0 : List UInt8 := [42, 180, 1, 36, 27, 100, 44, 182, 1, 22, 160, 0, 7, 4, 167, 0, 4, 3, 62, 3, 54, 4, 21, 4]
abbrev dktX2_isWord_0 : List UInt8 := dkwX2_isWord_0 ++ dktX2_isWord_1
theorem dksX2_isWord_0 : cX2_isWord.data.toList.drop 0 = dktX2_isWord_0 := by decide +kernel
theorem dksX2_isWord_1 : cX2_isWord.data.toList.drop 24 = dktX2_isWord_1 := dk_seg dksX2_isWord_0 24 rfl rfl
theorem dksX2_isWord_2 : cX2_isWord.data.toList.drop 47 = dktX2_isWord_2 := dk_seg dksX2_isWord_1 23 rfl rfl
theorem dX2_isWord_0 : decode cX2_isWord 0 = .ok (.aload_n 0, 1) := dk_42 (dk_at dksX2_isWord_0 0 rfl rfl)
theorem dX2_isWord_1 : decode cX2_isWord 1 = .ok (.getfield 292, 3) := dk_180 1 36 (dk_at dksX2_isWord_0 1 rfl rfl)
theorem dX2_isWord_4 : decode cX2_isWord 4 = .ok (.iload_n 1, 1) := dk_27 (dk_at dksX2_isWord_0 4 rfl rfl)
theorem dX2_isWord_5 : decode cX2_isWord 5 = .ok (.isub, 1) := dk_100 (dk_at dksX2_isWord_0 5 rfl rfl)
theorem dX2_isWord_6 : decode cX2_isWord 6 = .ok (.aload_n 2, 1) := dk_44 (dk_at dksX2_isWord_0 6 rfl rfl)
theorem dX2_isWord_7 : decode cX2_isWord 7 = .ok (.invokevirtual 278, 3) := dk_182 1 22 (dk_at dksX2_isWord_0 7 rfl rfl)
theorem dX2_isWord_10 : decode cX2_isWord 10 = .ok (.if_icmp .ne 7, 3) := dk_160 0 7 (dk_at dksX2_isWord_0 10 rfl rfl)
theorem dX2_isWord_13 : decode cX2_isWord 13 = .ok (.iconst 1, 1) := dk_4 (dk_at dksX2_isWord_0 13 rfl rfl)
theorem dX2_isWord_14 : decode cX2_isWord 14 = .ok (.goto 4, 3) := dk_167 0 4 (dk_at dksX2_isWord_0 14 rfl rfl)
theorem dX2_isWord_17 : decode cX2_isWord 17 = .ok (.iconst 0, 1) := dk_3 (dk_at dksX2_isWord_0 17 rfl rfl)
theorem dX2_isWord_18 : decode cX2_isWord 18 = .ok (.istore_n 3, 1) := dk_62 (dk_at dksX2_isWord_0 18 rfl rfl)
theorem dX2_isWord_19 : decode cX2_isWord 19 = .ok (.iconst 0, 1) := dk_3 (dk_at dksX2_isWord_0 19 rfl rfl)
theorem dX2_isWord_20 : decode cX2_isWord 20 = .ok (.istore 4, 2) := dk_54 4 (dk_at dksX2_isWord_0 20 rfl rfl)
theorem dX2_isWord_22 : decode cX2_isWord 22 = .ok (.iload 4, 2) := dk_21 4 (dk_at dksX2_isWord_0 22 rfl rfl)
theorem dX2_isWord_24 : decode cX2_isWord 24 = .ok (.aload_n 2, 1) := dk_44 (dk_at dksX2_isWord_1 0 rfl rfl)
theorem dX2_isWord_25 : decode cX2_isWord 25 = .ok (.invokevirtual 278, 3) := dk_182 1 22 (dk_at dksX2_isWord_1 1 rfl rfl)
theorem dX2_isWord_28 : decode cX2_isWord 28 = .ok (.if_icmp .ge 37, 3) := dk_162 0 37 (dk_at dksX2_isWord_1 4 rfl rfl)
theorem dX2_isWord_31 : decode cX2_isWord 31 = .ok (.iload_n 3, 1) := dk_29 (dk_at dksX2_isWord_1 7 rfl rfl)
theorem dX2_isWord_32 : decode cX2_isWord 32 = .ok (.ifCond .eq 33, 3) := dk_153 0 33 (dk_at dksX2_isWord_1 8 rfl rfl)
theorem dX2_isWord_35 : decode cX2_isWord 35 = .ok (.aload_n 0, 1) := dk_42 (dk_at dksX2_isWord_1 11 rfl rfl)
theorem dX2_isWord_36 : decode cX2_isWord 36 = .ok (.getfield 44, 3) := dk_180 0 44 (dk_at dksX2_isWord_1 12 rfl rfl)
theorem dX2_isWord_39 : decode cX2_isWord 39 = .ok (.iload_n 1, 1) := dk_27 (dk_at dksX2_isWord_1 15 rfl rfl)
theorem dX2_isWord_40 : decode cX2_isWord 40 = .ok (.iload 4, 2) := dk_21 4 (dk_at dksX2_isWord_1 16 rfl rfl)
theorem dX2_isWord_42 : decode cX2_isWord 42 = .ok (.iadd, 1) := dk_96 (dk_at dksX2_isWord_1 18 rfl rfl)
theorem dX2_isWord_43 : decode cX2_isWord 43 = .ok (.caload, 1) := dk_52 (dk_at dksX2_isWord_1 19 rfl rfl)
theorem dX2_isWord_44 : decode cX2_isWord 44 = .ok (.aload_n 2, 1) := dk_44 (dk_at dksX2_isWord_1 20 rfl rfl)
theorem dX2_isWord_45 : decode cX2_isWord 45 = .ok (.iload 4, 2) := dk_21 4 (dk_at dksX2_isWord_1 21 rfl rfl)
theorem dX2_isWord_47 : decode cX2_isWord 47 = .ok (.invokevirtual 283, 3) := dk_182 1 27 (dk_at dksX2_isWord_2 0 rfl rfl)
theorem dX2_isWord_50 : decode cX2_isWord 50 = .ok (.if_icmp .ne 7, 3) := dk_160 0 7 (dk_at dksX2_isWord_2 3 rfl rfl)
theorem dX2_isWord_53 : decode cX2_isWord 53 = .ok (.iconst 1, 1) := dk_4 (dk_at dksX2_isWord_2 6 rfl rfl)
theorem dX2_isWord_54 : decode cX2_isWord 54 = .ok (.goto 4, 3) := dk_167 0 4 (dk_at dksX2_isWord_2 7 rfl rfl)
theorem dX2_isWord_57 : decode cX2_isWord 57 = .ok (.iconst 0, 1) := dk_3 (dk_at dksX2_isWord_2 10 rfl rfl)
theorem dX2_isWord_58 : decode cX2_isWord 58 = .ok (.istore_n 3, 1) := dk_62 (dk_at dksX2_isWord_2 11 rfl rfl)
theorem dX2_isWord_59 : decode cX2_isWord 59 = .ok (.iinc 4 1, 3) := dk_132 4 1 (dk_at dksX2_isWord_2 12 rfl rfl)
theorem dX2_isWord_62 : decode cX2_isWord 62 = .ok (.goto (-40), 3) := dk_167 255 216 (dk_at dksX2_isWord_2 15 rfl rfl)
theorem dX2_isWord_65 : decode cX2_isWord 65 = .ok (.iload_n 3, 1) := dk_29 (dk_at dksX2_isWord_2 18 rfl rfl)
theorem dX2_isWord_66 : decode cX2_isWord 66 = .ok (.ireturn, 1) := dk_172 (dk_at dksX2_isWord_2 19 rfl rfl)
abbrev cX2_readNumber : ByteArray := prog_12_method_94_code
def yX2_readNumber : MethodName := ⟨RX2, "readNumber", "(I)V"⟩
def dkwX2_readNumber_4 : List UInt8 := [42, 28, 154, 0, 7, 4, 167, 0, 4, 3, 181, 1, 66, 177]
abbrev dktX2_readNumber_4 : List UInt8 := dkwX2_readNumber_4 ++ []
def dkwX2_readNumber_3 : List UInt8 := [182, 1, 63, 96, 16, 48, 100, 79, 42, 89, 180, 1, 36, 4, 96, 181, 1, 36, 132, 2, 1, 167, 255, 201]
abbrev dktX2_readNumber_3 : List UInt8 := dkwX2_readNumber_3 ++ dktX2_readNumber_4
def dkwX2_readNumber_2 : List UInt8 := [16, 57, 184, 0, 59, 153, 0, 42, 42, 180, 0, 47, 27, 16, 10, 42, 180, 0, 47, 27, 46, 104, 42]
abbrev dktX2_readNumber_2 : List UInt8 := dkwX2_readNumber_2 ++ dktX2_readNumber_3
def dkwX2_readNumber_1 : List UInt8 := [181, 1, 36, 3, 61, 42, 180, 0, 47, 27, 3, 79, 28, 7, 162, 0, 56, 42, 182, 1, 63, 16, 48]
abbrev dktX2_readNumber_1 : List UInt8 := dkwX2_readNumber_1 ++ dktX2_readNumber_2
def dkwX2_readNumber_0 : List UInt8 := [42, 182, 1, 63, 16, 32, 159, 0, 9, 42, 4, 181, 1, 66, 177, 42, 89, 180, 1, 36, 4, 96]
abbrev dktX2_readNumber_0 : List UInt8 := dkwX2_readNumber_0 ++ dktX2_readNumber_1
theorem dksX2_readNumber_0 : cX2_readNumber.data.toList.drop 0 = dktX2_readNumber_0 := by decide +kernel
theorem dksX2_readNumber_1 : cX2_readNumber.data.toList.drop 22 = dktX2_readNumber_1 := dk_seg dksX2_readNumber_0 22 rfl rfl
theorem dksX2_readNumber_2 : cX2_readNumber.data.toList.drop 45 = dktX2_readNumber_2 := dk_seg dksX2_readNumber_1 23 rfl rfl
theorem dksX2_readNumber_3 : cX2_readNumber.data.toList.drop 68 = dktX2_readNumber_3 := dk_seg dksX2_readNumber_2 23 rfl rfl
theorem dksX2_readNumber_4 : cX2_readNumber.data.toList.drop 92 = dktX2_readNumber_4 := dk_seg dksX2_readNumber_3 24 rfl rfl
theorem dX2_readNumber_0 : decode cX2_readNumber 0 = .ok (.aload_n 0, 1) := dk_42 (dk_at dksX2_readNumber_0 0 rfl rfl)
theorem dX2_readNumber_1 : decode cX2_readNumber 1 = .ok (.invokevirtual 319, 3) := dk_182 1 63 (dk_at dksX2_readNumber_0 1 rfl rfl)
theorem dX2_readNumber_4 : decode cX2_readNumber 4 = .ok (.bipush 32, 2) := dk_16 32 (dk_at dksX2_readNumber_0 4 rfl rfl)
theorem dX2_readNumber_6 : decode cX2_readNumber 6 = .ok (.if_icmp .eq 9, 3) := dk_159 0 9 (dk_at dksX2_readNumber_0 6 rfl rfl)
theorem dX2_readNumber_9 : decode cX2_readNumber 9 = .ok (.aload_n 0, 1) := dk_42 (dk_at dksX2_readNumber_0 9 rfl rfl)
theorem dX2_readNumber_10 : decode cX2_readNumber 10 = .ok (.iconst 1, 1) := dk_4 (dk_at dksX2_readNumber_0 10 rfl rfl)
theorem dX2_readNumber_11 : decode cX2_readNumber 11 = .ok (.putfield 322, 3) := dk_181 1 66 (dk_at dksX2_readNumber_0 11 rfl rfl)
theorem dX2_readNumber_14 : decode cX2_readNumber 14 = .ok (.return_, 1) := dk_177 (dk_at dksX2_readNumber_0 14 rfl rfl)
theorem dX2_readNumber_15 : decode cX2_readNumber 15 = .ok (.aload_n 0, 1) := dk_42 (dk_at dksX2_readNumber_0 15 rfl rfl)
theorem dX2_readNumber_16 : decode cX2_readNumber 16 = .ok (.dup, 1) := dk_89 (dk_at dksX2_readNumber_0 16 rfl rfl)
theorem dX2_readNumber_17 : decode cX2_readNumber 17 = .ok (.getfield 292, 3) := dk_180 1 36 (dk_at dksX2_readNumber_0 17 rfl rfl)
theorem dX2_readNumber_20 : decode cX2_readNumber 20 = .ok (.iconst 1, 1) := dk_4 (dk_at dksX2_readNumber_0 20 rfl rfl)
theorem dX2_readNumber_21 : decode cX2_readNumber 21 = .ok (.iadd, 1) := dk_96 (dk_at dksX2_readNumber_0 21 rfl rfl)
theorem dX2_readNumber_22 : decode cX2_readNumber 22 = .ok (.putfield 292, 3) := dk_181 1 36 (dk_at dksX2_readNumber_1 0 rfl rfl)
theorem dX2_readNumber_25 : decode cX2_readNumber 25 = .ok (.iconst 0, 1) := dk_3 (dk_at dksX2_readNumber_1 3 rfl rfl)
theorem dX2_readNumber_26 : decode cX2_readNumber 26 = .ok (.istore_n 2, 1) := dk_61 (dk_at dksX2_readNumber_1 4 rfl rfl)
theorem dX2_readNumber_27 : decode cX2_readNumber 27 = .ok (.aload_n 0, 1) := dk_42 (dk_at dksX2_readNumber_1 5 rfl rfl)
theorem dX2_readNumber_28 : decode cX2_readNumber 28 = .ok (.getfield 47, 3) := dk_180 0 47 (dk_at dksX2_readNumber_1 6 rfl rfl)
theorem dX2_readNumber_31 : decode cX2_readNumber 31 = .ok (.iload_n 1, 1) := dk_27 (dk_at dksX2_readNumber_1 9 rfl rfl)
theorem dX2_readNumber_32 : decode cX2_readNumber 32 = .ok (.iconst 0, 1) := dk_3 (dk_at dksX2_readNumber_1 10 rfl rfl)
theorem dX2_readNumber_33 : decode cX2_readNumber 33 = .ok (.iastore, 1) := dk_79 (dk_at dksX2_readNumber_1 11 rfl rfl)
theorem dX2_readNumber_34 : decode cX2_readNumber 34 = .ok (.iload_n 2, 1) := dk_28 (dk_at dksX2_readNumber_1 12 rfl rfl)
theorem dX2_readNumber_35 : decode cX2_readNumber 35 = .ok (.iconst 4, 1) := dk_7 (dk_at dksX2_readNumber_1 13 rfl rfl)
theorem dX2_readNumber_36 : decode cX2_readNumber 36 = .ok (.if_icmp .ge 56, 3) := dk_162 0 56 (dk_at dksX2_readNumber_1 14 rfl rfl)
theorem dX2_readNumber_39 : decode cX2_readNumber 39 = .ok (.aload_n 0, 1) := dk_42 (dk_at dksX2_readNumber_1 17 rfl rfl)
theorem dX2_readNumber_40 : decode cX2_readNumber 40 = .ok (.invokevirtual 319, 3) := dk_182 1 63 (dk_at dksX2_readNumber_1 18 rfl rfl)
theorem dX2_readNumber_43 : decode cX2_readNumber 43 = .ok (.bipush 48, 2) := dk_16 48 (dk_at dksX2_readNumber_1 21 rfl rfl)
theorem dX2_readNumber_45 : decode cX2_readNumber 45 = .ok (.bipush 57, 2) := dk_16 57 (dk_at dksX2_readNumber_2 0 rfl rfl)
theorem dX2_readNumber_47 : decode cX2_readNumber 47 = .ok (.invokestatic 59, 3) := dk_184 0 59 (dk_at dksX2_readNumber_2 2 rfl rfl)
theorem dX2_readNumber_50 : decode cX2_readNumber 50 = .ok (.ifCond .eq 42, 3) := dk_153 0 42 (dk_at dksX2_readNumber_2 5 rfl rfl)
theorem dX2_readNumber_53 : decode cX2_readNumber 53 = .ok (.aload_n 0, 1) := dk_42 (dk_at dksX2_readNumber_2 8 rfl rfl)
theorem dX2_readNumber_54 : decode cX2_readNumber 54 = .ok (.getfield 47, 3) := dk_180 0 47 (dk_at dksX2_readNumber_2 9 rfl rfl)
theorem dX2_readNumber_57 : decode cX2_readNumber 57 = .ok (.iload_n 1, 1) := dk_27 (dk_at dksX2_readNumber_2 12 rfl rfl)
theorem dX2_readNumber_58 : decode cX2_readNumber 58 = .ok (.bipush 10, 2) := dk_16 10 (dk_at dksX2_readNumber_2 13 rfl rfl)
theorem dX2_readNumber_60 : decode cX2_readNumber 60 = .ok (.aload_n 0, 1) := dk_42 (dk_at dksX2_readNumber_2 15 rfl rfl)
theorem dX2_readNumber_61 : decode cX2_readNumber 61 = .ok (.getfield 47, 3) := dk_180 0 47 (dk_at dksX2_readNumber_2 16 rfl rfl)
theorem dX2_readNumber_64 : decode cX2_readNumber 64 = .ok (.iload_n 1, 1) := dk_27 (dk_at dksX2_readNumber_2 19 rfl rfl)
theorem dX2_readNumber_65 : decode cX2_readNumber 65 = .ok (.iaload, 1) := dk_46 (dk_at dksX2_readNumber_2 20 rfl rfl)
theorem dX2_readNumber_66 : decode cX2_readNumber 66 = .ok (.imul, 1) := dk_104 (dk_at dksX2_readNumber_2 21 rfl rfl)
theorem dX2_readNumber_67 : decode cX2_readNumber 67 = .ok (.aload_n 0, 1) := dk_42 (dk_at dksX2_readNumber_2 22 rfl rfl)
theorem dX2_readNumber_68 : decode cX2_readNumber 68 = .ok (.invokevirtual 319, 3) := dk_182 1 63 (dk_at dksX2_readNumber_3 0 rfl rfl)
theorem dX2_readNumber_71 : decode cX2_readNumber 71 = .ok (.iadd, 1) := dk_96 (dk_at dksX2_readNumber_3 3 rfl rfl)
theorem dX2_readNumber_72 : decode cX2_readNumber 72 = .ok (.bipush 48, 2) := dk_16 48 (dk_at dksX2_readNumber_3 4 rfl rfl)
theorem dX2_readNumber_74 : decode cX2_readNumber 74 = .ok (.isub, 1) := dk_100 (dk_at dksX2_readNumber_3 6 rfl rfl)
theorem dX2_readNumber_75 : decode cX2_readNumber 75 = .ok (.iastore, 1) := dk_79 (dk_at dksX2_readNumber_3 7 rfl rfl)
theorem dX2_readNumber_76 : decode cX2_readNumber 76 = .ok (.aload_n 0, 1) := dk_42 (dk_at dksX2_readNumber_3 8 rfl rfl)
theorem dX2_readNumber_77 : decode cX2_readNumber 77 = .ok (.dup, 1) := dk_89 (dk_at dksX2_readNumber_3 9 rfl rfl)
theorem dX2_readNumber_78 : decode cX2_readNumber 78 = .ok (.getfield 292, 3) := dk_180 1 36 (dk_at dksX2_readNumber_3 10 rfl rfl)
theorem dX2_readNumber_81 : decode cX2_readNumber 81 = .ok (.iconst 1, 1) := dk_4 (dk_at dksX2_readNumber_3 13 rfl rfl)
theorem dX2_readNumber_82 : decode cX2_readNumber 82 = .ok (.iadd, 1) := dk_96 (dk_at dksX2_readNumber_3 14 rfl rfl)
theorem dX2_readNumber_83 : decode cX2_readNumber 83 = .ok (.putfield 292, 3) := dk_181 1 36 (dk_at dksX2_readNumber_3 15 rfl rfl)
theorem dX2_readNumber_86 : decode cX2_readNumber 86 = .ok (.iinc 2 1, 3) := dk_132 2 1 (dk_at dksX2_readNumber_3 18 rfl rfl)
theorem dX2_readNumber_89 : decode cX2_readNumber 89 = .ok (.goto (-55), 3) := dk_167 255 201 (dk_at dksX2_readNumber_3 21 rfl rfl)
theorem dX2_readNumber_92 : decode cX2_readNumber 92 = .ok (.aload_n 0, 1) := dk_42 (dk_at dksX2_readNumber_4 0 rfl rfl)
theorem dX2_readNumber_93 : decode cX2_readNumber 93 = .ok (.iload_n 2, 1) := dk_28 (dk_at dksX2_readNumber_4 1 rfl rfl)
theorem dX2_readNumber_94 : decode cX2_readNumber 94 = .ok (.ifCond .ne 7, 3) := dk_154 0 7 (dk_at dksX2_readNumber_4 2 rfl rfl)
theorem dX2_readNumber_97 : decode cX2_readNumber 97 = .ok (.iconst 1, 1) := dk_4 (dk_at dksX2_readNumber_4 5 rfl rfl)
theorem dX2_readNumber_98 : decode cX2_readNumber 98 = .ok (.goto 4, 3) := dk_167 0 4 (dk_at dksX2_readNumber_4 6 rfl rfl)
theorem dX2_readNumber_101 : decode cX2_readNumber 101 = .ok (.iconst 0, 1) := dk_3 (dk_at dksX2_readNumber_4 9 rfl rfl)
theorem dX2_readNumber_102 : decode cX2_readNumber 102 = .ok (.putfield 322, 3) := dk_181 1 66 (dk_at dksX2_readNumber_4 10 rfl rfl)
theorem dX2_readNumber_105 : decode cX2_readNumber 105 = .ok (.return_, 1) := dk_177 (dk_at dksX2_readNumber_4 13 rfl rfl)
abbrev cX2_perform : ByteArray := prog_12_method_95_code
def yX2_perform : MethodName := ⟨RX2, "perform", "(I)I"⟩
def dkwX2_perform_5 : List UInt8 := [182, 1, 92, 172]
abbrev dktX2_perform_5 : List UInt8 := dkwX2_perform_5 ++ []
def dkwX2_perform_4 : List UInt8 := [29, 182, 1, 82, 172, 42, 28, 182, 1, 85, 172, 42, 28, 29, 182, 1, 87, 172, 42, 182, 1, 90, 172, 42]
abbrev dktX2_perform_4 : List UInt8 := dkwX2_perform_4 ++ dktX2_perform_5
def dkwX2_perform_3 : List UInt8 := [172, 42, 28, 29, 182, 1, 76, 172, 42, 28, 29, 182, 1, 78, 172, 42, 28, 29, 182, 1, 80, 172, 42, 28]
abbrev dktX2_perform_3 : List UInt8 := dkwX2_perform_3 ++ dktX2_perform_4
def dkwX2_perform_2 : List UInt8 := [42, 28, 29, 42, 180, 0, 47, 5, 46, 42, 180, 0, 47, 6, 46, 182, 1, 69, 172, 42, 28, 182, 1, 73]
abbrev dktX2_perform_2 : List UInt8 := dkwX2_perform_2 ++ dktX2_perform_3
def dkwX2_perform_1 : List UInt8 := [170, 0, 0, 0, 120, 0, 0, 0, 0, 0, 0, 0, 8, 0, 0, 0, 49, 0, 0, 0, 68, 0, 0, 0, 74, 0, 0, 0, 81, 0, 0, 0, 88, 0, 0, 0, 95, 0, 0, 0, 102, 0, 0, 0, 108, 0, 0, 0, 115]
abbrev dktX2_perform_1 : List UInt8 := dkwX2_perform_1 ++ dktX2_perform_2
def dkwX2_perform_0 : List UInt8 := [42, 180, 0, 47, 3, 46, 61, 42, 180, 0, 47, 4, 46, 62, 27]
abbrev dktX2_perform_0 : List UInt8 := dkwX2_perform_0 ++ dktX2_perform_1
theorem dksX2_perform_0 : cX2_perform.data.toList.drop 0 = dktX2_perform_0 := by decide +kernel
theorem dksX2_perform_1 : cX2_perform.data.toList.drop 15 = dktX2_perform_1 := dk_seg dksX2_perform_0 15 rfl rfl
theorem dksX2_perform_2 : cX2_perform.data.toList.drop 64 = dktX2_perform_2 := dk_seg dksX2_perform_1 49 rfl rfl
theorem dksX2_perform_3 : cX2_perform.data.toList.drop 88 = dktX2_perform_3 := dk_seg dksX2_perform_2 24 rfl rfl
theorem dksX2_perform_4 : cX2_perform.data.toList.drop 112 = dktX2_perform_4 := dk_seg dksX2_perform_3 24 rfl rfl
theorem dksX2_perform_5 : cX2_perform.data.toList.drop 136 = dktX2_perform_5 := dk_seg dksX2_perform_4 24 rfl rfl
theorem dX2_perform_0 : decode cX2_perform 0 = .ok (.aload_n 0, 1) := dk_42 (dk_at dksX2_perform_0 0 rfl rfl)
theorem dX2_perform_1 : decode cX2_perform 1 = .ok (.getfield 47, 3) := dk_180 0 47 (dk_at dksX2_perform_0 1 rfl rfl)
theorem dX2_perform_4 : decode cX2_perform 4 = .ok (.iconst 0, 1) := dk_3 (dk_at dksX2_perform_0 4 rfl rfl)
theorem dX2_perform_5 : decode cX2_perform 5 = .ok (.iaload, 1) := dk_46 (dk_at dksX2_perform_0 5 rfl rfl)
theorem dX2_perform_6 : decode cX2_perform 6 = .ok (.istore_n 2, 1) := dk_61 (dk_at dksX2_perform_0 6 rfl rfl)
theorem dX2_perform_7 : decode cX2_perform 7 = .ok (.aload_n 0, 1) := dk_42 (dk_at dksX2_perform_0 7 rfl rfl)
theorem dX2_perform_8 : decode cX2_perform 8 = .ok (.getfield 47, 3) := dk_180 0 47 (dk_at dksX2_perform_0 8 rfl rfl)
theorem dX2_perform_11 : decode cX2_perform 11 = .ok (.iconst 1, 1) := dk_4 (dk_at dksX2_perform_0 11 rfl rfl)
theorem dX2_perform_12 : decode cX2_perform 12 = .ok (.iaload, 1) := dk_46 (dk_at dksX2_perform_0 12 rfl rfl)
theorem dX2_perform_13 : decode cX2_perform 13 = .ok (.istore_n 3, 1) := dk_62 (dk_at dksX2_perform_0 13 rfl rfl)
theorem dX2_perform_14 : decode cX2_perform 14 = .ok (.iload_n 1, 1) := dk_27 (dk_at dksX2_perform_0 14 rfl rfl)
theorem dX2_perform_15 : decode cX2_perform 15 = .ok (.tableswitch 120 0 8 #[49, 68, 74, 81, 88, 95, 102, 108, 115], 49) := by decide +kernel
theorem dX2_perform_64 : decode cX2_perform 64 = .ok (.aload_n 0, 1) := dk_42 (dk_at dksX2_perform_2 0 rfl rfl)
theorem dX2_perform_65 : decode cX2_perform 65 = .ok (.iload_n 2, 1) := dk_28 (dk_at dksX2_perform_2 1 rfl rfl)
theorem dX2_perform_66 : decode cX2_perform 66 = .ok (.iload_n 3, 1) := dk_29 (dk_at dksX2_perform_2 2 rfl rfl)
theorem dX2_perform_67 : decode cX2_perform 67 = .ok (.aload_n 0, 1) := dk_42 (dk_at dksX2_perform_2 3 rfl rfl)
theorem dX2_perform_68 : decode cX2_perform 68 = .ok (.getfield 47, 3) := dk_180 0 47 (dk_at dksX2_perform_2 4 rfl rfl)
theorem dX2_perform_71 : decode cX2_perform 71 = .ok (.iconst 2, 1) := dk_5 (dk_at dksX2_perform_2 7 rfl rfl)
theorem dX2_perform_72 : decode cX2_perform 72 = .ok (.iaload, 1) := dk_46 (dk_at dksX2_perform_2 8 rfl rfl)
theorem dX2_perform_73 : decode cX2_perform 73 = .ok (.aload_n 0, 1) := dk_42 (dk_at dksX2_perform_2 9 rfl rfl)
theorem dX2_perform_74 : decode cX2_perform 74 = .ok (.getfield 47, 3) := dk_180 0 47 (dk_at dksX2_perform_2 10 rfl rfl)
theorem dX2_perform_77 : decode cX2_perform 77 = .ok (.iconst 3, 1) := dk_6 (dk_at dksX2_perform_2 13 rfl rfl)
theorem dX2_perform_78 : decode cX2_perform 78 = .ok (.iaload, 1) := dk_46 (dk_at dksX2_perform_2 14 rfl rfl)
theorem dX2_perform_79 : decode cX2_perform 79 = .ok (.invokevirtual 325, 3) := dk_182 1 69 (dk_at dksX2_perform_2 15 rfl rfl)
theorem dX2_perform_82 : decode cX2_perform 82 = .ok (.ireturn, 1) := dk_172 (dk_at dksX2_perform_2 18 rfl rfl)
theorem dX2_perform_83 : decode cX2_perform 83 = .ok (.aload_n 0, 1) := dk_42 (dk_at dksX2_perform_2 19 rfl rfl)
theorem dX2_perform_84 : decode cX2_perform 84 = .ok (.iload_n 2, 1) := dk_28 (dk_at dksX2_perform_2 20 rfl rfl)
theorem dX2_perform_85 : decode cX2_perform 85 = .ok (.invokevirtual 329, 3) := dk_182 1 73 (dk_at dksX2_perform_2 21 rfl rfl)
theorem dX2_perform_88 : decode cX2_perform 88 = .ok (.ireturn, 1) := dk_172 (dk_at dksX2_perform_3 0 rfl rfl)
theorem dX2_perform_89 : decode cX2_perform 89 = .ok (.aload_n 0, 1) := dk_42 (dk_at dksX2_perform_3 1 rfl rfl)
theorem dX2_perform_90 : decode cX2_perform 90 = .ok (.iload_n 2, 1) := dk_28 (dk_at dksX2_perform_3 2 rfl rfl)
theorem dX2_perform_91 : decode cX2_perform 91 = .ok (.iload_n 3, 1) := dk_29 (dk_at dksX2_perform_3 3 rfl rfl)
theorem dX2_perform_92 : decode cX2_perform 92 = .ok (.invokevirtual 332, 3) := dk_182 1 76 (dk_at dksX2_perform_3 4 rfl rfl)
theorem dX2_perform_95 : decode cX2_perform 95 = .ok (.ireturn, 1) := dk_172 (dk_at dksX2_perform_3 7 rfl rfl)
theorem dX2_perform_96 : decode cX2_perform 96 = .ok (.aload_n 0, 1) := dk_42 (dk_at dksX2_perform_3 8 rfl rfl)
theorem dX2_perform_97 : decode cX2_perform 97 = .ok (.iload_n 2, 1) := dk_28 (dk_at dksX2_perform_3 9 rfl rfl)
theorem dX2_perform_98 : decode cX2_perform 98 = .ok (.iload_n 3, 1) := dk_29 (dk_at dksX2_perform_3 10 rfl rfl)
theorem dX2_perform_99 : decode cX2_perform 99 = .ok (.invokevirtual 334, 3) := dk_182 1 78 (dk_at dksX2_perform_3 11 rfl rfl)
theorem dX2_perform_102 : decode cX2_perform 102 = .ok (.ireturn, 1) := dk_172 (dk_at dksX2_perform_3 14 rfl rfl)
theorem dX2_perform_103 : decode cX2_perform 103 = .ok (.aload_n 0, 1) := dk_42 (dk_at dksX2_perform_3 15 rfl rfl)
theorem dX2_perform_104 : decode cX2_perform 104 = .ok (.iload_n 2, 1) := dk_28 (dk_at dksX2_perform_3 16 rfl rfl)
theorem dX2_perform_105 : decode cX2_perform 105 = .ok (.iload_n 3, 1) := dk_29 (dk_at dksX2_perform_3 17 rfl rfl)
theorem dX2_perform_106 : decode cX2_perform 106 = .ok (.invokevirtual 336, 3) := dk_182 1 80 (dk_at dksX2_perform_3 18 rfl rfl)
theorem dX2_perform_109 : decode cX2_perform 109 = .ok (.ireturn, 1) := dk_172 (dk_at dksX2_perform_3 21 rfl rfl)
theorem dX2_perform_110 : decode cX2_perform 110 = .ok (.aload_n 0, 1) := dk_42 (dk_at dksX2_perform_3 22 rfl rfl)
theorem dX2_perform_111 : decode cX2_perform 111 = .ok (.iload_n 2, 1) := dk_28 (dk_at dksX2_perform_3 23 rfl rfl)
theorem dX2_perform_112 : decode cX2_perform 112 = .ok (.iload_n 3, 1) := dk_29 (dk_at dksX2_perform_4 0 rfl rfl)
theorem dX2_perform_113 : decode cX2_perform 113 = .ok (.invokevirtual 338, 3) := dk_182 1 82 (dk_at dksX2_perform_4 1 rfl rfl)
theorem dX2_perform_116 : decode cX2_perform 116 = .ok (.ireturn, 1) := dk_172 (dk_at dksX2_perform_4 4 rfl rfl)
theorem dX2_perform_117 : decode cX2_perform 117 = .ok (.aload_n 0, 1) := dk_42 (dk_at dksX2_perform_4 5 rfl rfl)
theorem dX2_perform_118 : decode cX2_perform 118 = .ok (.iload_n 2, 1) := dk_28 (dk_at dksX2_perform_4 6 rfl rfl)
theorem dX2_perform_119 : decode cX2_perform 119 = .ok (.invokevirtual 341, 3) := dk_182 1 85 (dk_at dksX2_perform_4 7 rfl rfl)
theorem dX2_perform_122 : decode cX2_perform 122 = .ok (.ireturn, 1) := dk_172 (dk_at dksX2_perform_4 10 rfl rfl)
theorem dX2_perform_123 : decode cX2_perform 123 = .ok (.aload_n 0, 1) := dk_42 (dk_at dksX2_perform_4 11 rfl rfl)
theorem dX2_perform_124 : decode cX2_perform 124 = .ok (.iload_n 2, 1) := dk_28 (dk_at dksX2_perform_4 12 rfl rfl)
theorem dX2_perform_125 : decode cX2_perform 125 = .ok (.iload_n 3, 1) := dk_29 (dk_at dksX2_perform_4 13 rfl rfl)
theorem dX2_perform_126 : decode cX2_perform 126 = .ok (.invokevirtual 343, 3) := dk_182 1 87 (dk_at dksX2_perform_4 14 rfl rfl)
theorem dX2_perform_129 : decode cX2_perform 129 = .ok (.ireturn, 1) := dk_172 (dk_at dksX2_perform_4 17 rfl rfl)
theorem dX2_perform_130 : decode cX2_perform 130 = .ok (.aload_n 0, 1) := dk_42 (dk_at dksX2_perform_4 18 rfl rfl)
theorem dX2_perform_131 : decode cX2_perform 131 = .ok (.invokevirtual 346, 3) := dk_182 1 90 (dk_at dksX2_perform_4 19 rfl rfl)
theorem dX2_perform_134 : decode cX2_perform 134 = .ok (.ireturn, 1) := dk_172 (dk_at dksX2_perform_4 22 rfl rfl)
theorem dX2_perform_135 : decode cX2_perform 135 = .ok (.aload_n 0, 1) := dk_42 (dk_at dksX2_perform_4 23 rfl rfl)
theorem dX2_perform_136 : decode cX2_perform 136 = .ok (.invokevirtual 348, 3) := dk_182 1 92 (dk_at dksX2_perform_5 0 rfl rfl)
theorem dX2_perform_139 : decode cX2_perform 139 = .ok (.ireturn, 1) := dk_172 (dk_at dksX2_perform_5 3 rfl rfl)
abbrev cX2_save : ByteArray := prog_12_method_98_code
def yX2_save : MethodName := ⟨RX2, "save", "()I"⟩
def dkwX2_save_1 : List UInt8 := [180, 0, 9, 3, 46, 172]
abbrev dktX2_save_1 : List UInt8 := dkwX2_save_1 ++ []
def dkwX2_save_0 : List UInt8 := [42, 180, 0, 9, 3, 42, 180, 0, 13, 3, 17, 1, 42, 184, 0, 53, 42, 4, 181, 1, 107, 42]
abbrev dktX2_save_0 : List UInt8 := dkwX2_save_0 ++ dktX2_save_1
theorem dksX2_save_0 : cX2_save.data.toList.drop 0 = dktX2_save_0 := by decide +kernel
theorem dksX2_save_1 : cX2_save.data.toList.drop 22 = dktX2_save_1 := dk_seg dksX2_save_0 22 rfl rfl
theorem dX2_save_0 : decode cX2_save 0 = .ok (.aload_n 0, 1) := dk_42 (dk_at dksX2_save_0 0 rfl rfl)
theorem dX2_save_1 : decode cX2_save 1 = .ok (.getfield 9, 3) := dk_180 0 9 (dk_at dksX2_save_0 1 rfl rfl)
theorem dX2_save_4 : decode cX2_save 4 = .ok (.iconst 0, 1) := dk_3 (dk_at dksX2_save_0 4 rfl rfl)
theorem dX2_save_5 : decode cX2_save 5 = .ok (.aload_n 0, 1) := dk_42 (dk_at dksX2_save_0 5 rfl rfl)
theorem dX2_save_6 : decode cX2_save 6 = .ok (.getfield 13, 3) := dk_180 0 13 (dk_at dksX2_save_0 6 rfl rfl)
theorem dX2_save_9 : decode cX2_save 9 = .ok (.iconst 0, 1) := dk_3 (dk_at dksX2_save_0 9 rfl rfl)
theorem dX2_save_10 : decode cX2_save 10 = .ok (.sipush 298, 3) := dk_17 1 42 (dk_at dksX2_save_0 10 rfl rfl)
theorem dX2_save_13 : decode cX2_save 13 = .ok (.invokestatic 53, 3) := dk_184 0 53 (dk_at dksX2_save_0 13 rfl rfl)
theorem dX2_save_16 : decode cX2_save 16 = .ok (.aload_n 0, 1) := dk_42 (dk_at dksX2_save_0 16 rfl rfl)
theorem dX2_save_17 : decode cX2_save 17 = .ok (.iconst 1, 1) := dk_4 (dk_at dksX2_save_0 17 rfl rfl)
theorem dX2_save_18 : decode cX2_save 18 = .ok (.putfield 363, 3) := dk_181 1 107 (dk_at dksX2_save_0 18 rfl rfl)
theorem dX2_save_21 : decode cX2_save 21 = .ok (.aload_n 0, 1) := dk_42 (dk_at dksX2_save_0 21 rfl rfl)
theorem dX2_save_22 : decode cX2_save 22 = .ok (.getfield 9, 3) := dk_180 0 9 (dk_at dksX2_save_1 0 rfl rfl)
theorem dX2_save_25 : decode cX2_save 25 = .ok (.iconst 0, 1) := dk_3 (dk_at dksX2_save_1 3 rfl rfl)
theorem dX2_save_26 : decode cX2_save 26 = .ok (.iaload, 1) := dk_46 (dk_at dksX2_save_1 4 rfl rfl)
theorem dX2_save_27 : decode cX2_save 27 = .ok (.ireturn, 1) := dk_172 (dk_at dksX2_save_1 5 rfl rfl)
abbrev cX2_restore : ByteArray := prog_12_method_99_code
def yX2_restore : MethodName := ⟨RX2, "restore", "()I"⟩
def dkwX2_restore_1 : List UInt8 := [17, 1, 42, 184, 0, 53, 42, 180, 0, 9, 3, 46, 172]
abbrev dktX2_restore_1 : List UInt8 := dkwX2_restore_1 ++ []
def dkwX2_restore_0 : List UInt8 := [42, 180, 1, 107, 154, 0, 6, 16, 254, 172, 42, 182, 0, 88, 42, 180, 0, 13, 3, 42, 180, 0, 9, 3]
abbrev dktX2_restore_0 : List UInt8 := dkwX2_restore_0 ++ dktX2_restore_1
theorem dksX2_restore_0 : cX2_restore.data.toList.drop 0 = dktX2_restore_0 := by decide +kernel
theorem dksX2_restore_1 : cX2_restore.data.toList.drop 24 = dktX2_restore_1 := dk_seg dksX2_restore_0 24 rfl rfl
theorem dX2_restore_0 : decode cX2_restore 0 = .ok (.aload_n 0, 1) := dk_42 (dk_at dksX2_restore_0 0 rfl rfl)
theorem dX2_restore_1 : decode cX2_restore 1 = .ok (.getfield 363, 3) := dk_180 1 107 (dk_at dksX2_restore_0 1 rfl rfl)
theorem dX2_restore_4 : decode cX2_restore 4 = .ok (.ifCond .ne 6, 3) := dk_154 0 6 (dk_at dksX2_restore_0 4 rfl rfl)
theorem dX2_restore_7 : decode cX2_restore 7 = .ok (.bipush (-2), 2) := dk_16 254 (dk_at dksX2_restore_0 7 rfl rfl)
theorem dX2_restore_9 : decode cX2_restore 9 = .ok (.ireturn, 1) := dk_172 (dk_at dksX2_restore_0 9 rfl rfl)
theorem dX2_restore_10 : decode cX2_restore 10 = .ok (.aload_n 0, 1) := dk_42 (dk_at dksX2_restore_0 10 rfl rfl)
theorem dX2_restore_11 : decode cX2_restore 11 = .ok (.invokevirtual 88, 3) := dk_182 0 88 (dk_at dksX2_restore_0 11 rfl rfl)
theorem dX2_restore_14 : decode cX2_restore 14 = .ok (.aload_n 0, 1) := dk_42 (dk_at dksX2_restore_0 14 rfl rfl)
theorem dX2_restore_15 : decode cX2_restore 15 = .ok (.getfield 13, 3) := dk_180 0 13 (dk_at dksX2_restore_0 15 rfl rfl)
theorem dX2_restore_18 : decode cX2_restore 18 = .ok (.iconst 0, 1) := dk_3 (dk_at dksX2_restore_0 18 rfl rfl)
theorem dX2_restore_19 : decode cX2_restore 19 = .ok (.aload_n 0, 1) := dk_42 (dk_at dksX2_restore_0 19 rfl rfl)
theorem dX2_restore_20 : decode cX2_restore 20 = .ok (.getfield 9, 3) := dk_180 0 9 (dk_at dksX2_restore_0 20 rfl rfl)
theorem dX2_restore_23 : decode cX2_restore 23 = .ok (.iconst 0, 1) := dk_3 (dk_at dksX2_restore_0 23 rfl rfl)
theorem dX2_restore_24 : decode cX2_restore 24 = .ok (.sipush 298, 3) := dk_17 1 42 (dk_at dksX2_restore_1 0 rfl rfl)
theorem dX2_restore_27 : decode cX2_restore 27 = .ok (.invokestatic 53, 3) := dk_184 0 53 (dk_at dksX2_restore_1 3 rfl rfl)
theorem dX2_restore_30 : decode cX2_restore 30 = .ok (.aload_n 0, 1) := dk_42 (dk_at dksX2_restore_1 6 rfl rfl)
theorem dX2_restore_31 : decode cX2_restore 31 = .ok (.getfield 9, 3) := dk_180 0 9 (dk_at dksX2_restore_1 7 rfl rfl)
theorem dX2_restore_34 : decode cX2_restore 34 = .ok (.iconst 0, 1) := dk_3 (dk_at dksX2_restore_1 10 rfl rfl)
theorem dX2_restore_35 : decode cX2_restore 35 = .ok (.iaload, 1) := dk_46 (dk_at dksX2_restore_1 11 rfl rfl)
theorem dX2_restore_36 : decode cX2_restore 36 = .ok (.ireturn, 1) := dk_172 (dk_at dksX2_restore_1 12 rfl rfl)
abbrev cX2_undo : ByteArray := prog_12_method_100_code
def yX2_undo : MethodName := ⟨RX2, "undo", "()I"⟩
def dkwX2_undo_1 : List UInt8 := [17, 1, 42, 42, 180, 0, 67, 104, 42, 180, 0, 9, 3, 17, 1, 42, 184, 0, 53, 42, 180, 0, 67, 172]
abbrev dktX2_undo_1 : List UInt8 := dkwX2_undo_1 ++ []
def dkwX2_undo_0 : List UInt8 := [42, 180, 0, 67, 154, 0, 6, 16, 254, 172, 42, 89, 180, 0, 67, 4, 100, 181, 0, 67, 42, 180, 0, 16]
abbrev dktX2_undo_0 : List UInt8 := dkwX2_undo_0 ++ dktX2_undo_1
theorem dksX2_undo_0 : cX2_undo.data.toList.drop 0 = dktX2_undo_0 := by decide +kernel
theorem dksX2_undo_1 : cX2_undo.data.toList.drop 24 = dktX2_undo_1 := dk_seg dksX2_undo_0 24 rfl rfl
theorem dX2_undo_0 : decode cX2_undo 0 = .ok (.aload_n 0, 1) := dk_42 (dk_at dksX2_undo_0 0 rfl rfl)
theorem dX2_undo_1 : decode cX2_undo 1 = .ok (.getfield 67, 3) := dk_180 0 67 (dk_at dksX2_undo_0 1 rfl rfl)
theorem dX2_undo_4 : decode cX2_undo 4 = .ok (.ifCond .ne 6, 3) := dk_154 0 6 (dk_at dksX2_undo_0 4 rfl rfl)
theorem dX2_undo_7 : decode cX2_undo 7 = .ok (.bipush (-2), 2) := dk_16 254 (dk_at dksX2_undo_0 7 rfl rfl)
theorem dX2_undo_9 : decode cX2_undo 9 = .ok (.ireturn, 1) := dk_172 (dk_at dksX2_undo_0 9 rfl rfl)
theorem dX2_undo_10 : decode cX2_undo 10 = .ok (.aload_n 0, 1) := dk_42 (dk_at dksX2_undo_0 10 rfl rfl)
theorem dX2_undo_11 : decode cX2_undo 11 = .ok (.dup, 1) := dk_89 (dk_at dksX2_undo_0 11 rfl rfl)
theorem dX2_undo_12 : decode cX2_undo 12 = .ok (.getfield 67, 3) := dk_180 0 67 (dk_at dksX2_undo_0 12 rfl rfl)
theorem dX2_undo_15 : decode cX2_undo 15 = .ok (.iconst 1, 1) := dk_4 (dk_at dksX2_undo_0 15 rfl rfl)
theorem dX2_undo_16 : decode cX2_undo 16 = .ok (.isub, 1) := dk_100 (dk_at dksX2_undo_0 16 rfl rfl)
theorem dX2_undo_17 : decode cX2_undo 17 = .ok (.putfield 67, 3) := dk_181 0 67 (dk_at dksX2_undo_0 17 rfl rfl)
theorem dX2_undo_20 : decode cX2_undo 20 = .ok (.aload_n 0, 1) := dk_42 (dk_at dksX2_undo_0 20 rfl rfl)
theorem dX2_undo_21 : decode cX2_undo 21 = .ok (.getfield 16, 3) := dk_180 0 16 (dk_at dksX2_undo_0 21 rfl rfl)
theorem dX2_undo_24 : decode cX2_undo 24 = .ok (.sipush 298, 3) := dk_17 1 42 (dk_at dksX2_undo_1 0 rfl rfl)
theorem dX2_undo_27 : decode cX2_undo 27 = .ok (.aload_n 0, 1) := dk_42 (dk_at dksX2_undo_1 3 rfl rfl)
theorem dX2_undo_28 : decode cX2_undo 28 = .ok (.getfield 67, 3) := dk_180 0 67 (dk_at dksX2_undo_1 4 rfl rfl)
theorem dX2_undo_31 : decode cX2_undo 31 = .ok (.imul, 1) := dk_104 (dk_at dksX2_undo_1 7 rfl rfl)
theorem dX2_undo_32 : decode cX2_undo 32 = .ok (.aload_n 0, 1) := dk_42 (dk_at dksX2_undo_1 8 rfl rfl)
theorem dX2_undo_33 : decode cX2_undo 33 = .ok (.getfield 9, 3) := dk_180 0 9 (dk_at dksX2_undo_1 9 rfl rfl)
theorem dX2_undo_36 : decode cX2_undo 36 = .ok (.iconst 0, 1) := dk_3 (dk_at dksX2_undo_1 12 rfl rfl)
theorem dX2_undo_37 : decode cX2_undo 37 = .ok (.sipush 298, 3) := dk_17 1 42 (dk_at dksX2_undo_1 13 rfl rfl)
theorem dX2_undo_40 : decode cX2_undo 40 = .ok (.invokestatic 53, 3) := dk_184 0 53 (dk_at dksX2_undo_1 16 rfl rfl)
theorem dX2_undo_43 : decode cX2_undo 43 = .ok (.aload_n 0, 1) := dk_42 (dk_at dksX2_undo_1 19 rfl rfl)
theorem dX2_undo_44 : decode cX2_undo 44 = .ok (.getfield 67, 3) := dk_180 0 67 (dk_at dksX2_undo_1 20 rfl rfl)
theorem dX2_undo_47 : decode cX2_undo 47 = .ok (.ireturn, 1) := dk_172 (dk_at dksX2_undo_1 23 rfl rfl)
theorem q117 : (Jvm.Cond.initialized "CrewPairerModel") ∈ lw_all := lw_g (lw_at lw_m1 10 rfl) rfl
theorem q417 : (Jvm.Cond.selects "CrewPairerModel" ({ cls := "java/lang/Object", name := "getClass", desc := "()Ljava/lang/Class;" } : Jvm.MethodName) ({ cls := "java/lang/Object", name := "getClass", desc := "()Ljava/lang/Class;" } : Jvm.MethodName)) ∈ lw_all := lw_g (lw_at lw_m2 70 rfl) rfl
theorem q600 : (Jvm.Cond.selects "CrewPairerModel" ({ cls := "java/lang/Object", name := "hashCode", desc := "()I" } : Jvm.MethodName) ({ cls := "java/lang/Object", name := "hashCode", desc := "()I" } : Jvm.MethodName)) ∈ lw_all := lw_g (lw_at lw_m3 13 rfl) rfl
theorem q970 : (Jvm.Cond.selects "CrewPairerModel" ({ cls := "java/lang/Object", name := "equals", desc := "(Ljava/lang/Object;)Z" } : Jvm.MethodName) ({ cls := "java/lang/Object", name := "equals", desc := "(Ljava/lang/Object;)Z" } : Jvm.MethodName)) ∈ lw_all := lw_g (lw_at lw_m4 143 rfl) rfl
theorem q1981 : (Jvm.Cond.instantiable "CrewPairerModel" (30 : Nat)) ∈ lw_all := lw_g (lw_at lw_m8 194 rfl) rfl
theorem q1983 : (Jvm.Cond.instanceMethod ({ cls := "CrewPairerModel", name := "<init>", desc := "()V" } : Jvm.MethodName)) ∈ lw_all := lw_g (lw_at lw_m8 196 rfl) rfl
theorem q1984 : (Jvm.Cond.code ({ cls := "CrewPairerModel", name := "<init>", desc := "()V" } : Jvm.MethodName) prog_12_method_1_code (1 : Nat) (Option.none : Option Jvm.ClassFile.FieldType)) ∈ lw_all := lw_g (lw_at lw_m8 197 rfl) rfl
theorem q1985 : (Jvm.Cond.methodLink "CrewPairerModel" (3 : Nat) ({ cls := "java/lang/Object", name := "<init>", desc := "()V" } : Jvm.MethodName)) ∈ lw_all := lw_g (lw_at lw_m8 198 rfl) rfl
theorem q1986 : (Jvm.Cond.fieldLink "CrewPairerModel" (50 : Nat) "CrewPairerModel" "FIRST" "[I") ∈ lw_all := lw_g (lw_at lw_m8 199 rfl) rfl
theorem q1987 : (Jvm.Cond.laysStatic "CrewPairerModel" "FIRST" "[I") ∈ lw_tbl := lw_at lw_m8 200 rfl
theorem q1988 : (Jvm.Cond.methodLink "CrewPairerModel" (53 : Nat) ({ cls := "java/lang/System", name := "arraycopy", desc := "(Ljava/lang/Object;ILjava/lang/Object;II)V" } : Jvm.MethodName)) ∈ lw_all := lw_g (lw_at lw_m8 201 rfl) rfl
theorem q1989 : (Jvm.Cond.fieldLink "CrewPairerModel" (9 : Nat) "CrewPairerModel" "s" "[I") ∈ lw_all := lw_g (lw_at lw_m8 202 rfl) rfl
theorem q1990 : (Jvm.Cond.fieldLink "CrewPairerModel" (13 : Nat) "CrewPairerModel" "saved" "[I") ∈ lw_all := lw_g (lw_at lw_m8 203 rfl) rfl
theorem q1991 : (Jvm.Cond.fieldLink "CrewPairerModel" (363 : Nat) "CrewPairerModel" "isSaved" "Z") ∈ lw_all := lw_g (lw_at lw_m8 204 rfl) rfl
theorem q1992 : (Jvm.Cond.fieldLink "CrewPairerModel" (16 : Nat) "CrewPairerModel" "past" "[I") ∈ lw_all := lw_g (lw_at lw_m8 205 rfl) rfl
theorem q1993 : (Jvm.Cond.fieldLink "CrewPairerModel" (67 : Nat) "CrewPairerModel" "pastMany" "I") ∈ lw_all := lw_g (lw_at lw_m8 206 rfl) rfl
theorem q1994 : (Jvm.Cond.fieldLink "CrewPairerModel" (19 : Nat) "CrewPairerModel" "before" "[I") ∈ lw_all := lw_g (lw_at lw_m8 207 rfl) rfl
theorem q1995 : (Jvm.Cond.fieldLink "CrewPairerModel" (71 : Nat) "CrewPairerModel" "isQuiet" "Z") ∈ lw_all := lw_g (lw_at lw_m8 208 rfl) rfl
theorem q1996 : (Jvm.Cond.fieldLink "CrewPairerModel" (22 : Nat) "CrewPairerModel" "row" "[I") ∈ lw_all := lw_g (lw_at lw_m8 209 rfl) rfl
theorem q1997 : (Jvm.Cond.fieldLink "CrewPairerModel" (114 : Nat) "CrewPairerModel" "many" "I") ∈ lw_all := lw_g (lw_at lw_m8 210 rfl) rfl
theorem q1998 : (Jvm.Cond.fieldLink "CrewPairerModel" (117 : Nat) "CrewPairerModel" "base" "I") ∈ lw_all := lw_g (lw_at lw_m8 211 rfl) rfl
theorem q1999 : (Jvm.Cond.fieldLink "CrewPairerModel" (25 : Nat) "CrewPairerModel" "opens" "[I") ∈ lw_all := lw_g (lw_at lw_m8 212 rfl) rfl
theorem q2000 : (Jvm.Cond.fieldLink "CrewPairerModel" (203 : Nat) "CrewPairerModel" "openMany" "I") ∈ lw_all := lw_g (lw_at lw_m8 213 rfl) rfl
theorem q2001 : (Jvm.Cond.fieldLink "CrewPairerModel" (221 : Nat) "CrewPairerModel" "offerCrew" "I") ∈ lw_all := lw_g (lw_at lw_m8 214 rfl) rfl
theorem q2002 : (Jvm.Cond.fieldLink "CrewPairerModel" (230 : Nat) "CrewPairerModel" "offerLeg" "I") ∈ lw_all := lw_g (lw_at lw_m8 215 rfl) rfl
theorem q2003 : (Jvm.Cond.fieldLink "CrewPairerModel" (224 : Nat) "CrewPairerModel" "offerPrice" "I") ∈ lw_all := lw_g (lw_at lw_m8 216 rfl) rfl
theorem q2004 : (Jvm.Cond.fieldLink "CrewPairerModel" (227 : Nat) "CrewPairerModel" "offerMinutes" "I") ∈ lw_all := lw_g (lw_at lw_m8 217 rfl) rfl
theorem q2005 : (Jvm.Cond.fieldLink "CrewPairerModel" (28 : Nat) "CrewPairerModel" "passed" "[I") ∈ lw_all := lw_g (lw_at lw_m8 218 rfl) rfl
theorem q2006 : (Jvm.Cond.fieldLink "CrewPairerModel" (31 : Nat) "CrewPairerModel" "removed" "[I") ∈ lw_all := lw_g (lw_at lw_m8 219 rfl) rfl
theorem q2007 : (Jvm.Cond.fieldLink "CrewPairerModel" (243 : Nat) "CrewPairerModel" "removedMany" "I") ∈ lw_all := lw_g (lw_at lw_m8 220 rfl) rfl
theorem q2008 : (Jvm.Cond.fieldLink "CrewPairerModel" (34 : Nat) "CrewPairerModel" "way" "[I") ∈ lw_all := lw_g (lw_at lw_m8 221 rfl) rfl
theorem q2009 : (Jvm.Cond.fieldLink "CrewPairerModel" (37 : Nat) "CrewPairerModel" "best" "[I") ∈ lw_all := lw_g (lw_at lw_m8 222 rfl) rfl
theorem q2010 : (Jvm.Cond.fieldLink "CrewPairerModel" (253 : Nat) "CrewPairerModel" "bestMany" "I") ∈ lw_all := lw_g (lw_at lw_m8 223 rfl) rfl
theorem q2011 : (Jvm.Cond.fieldLink "CrewPairerModel" (250 : Nat) "CrewPairerModel" "bestMinutes" "I") ∈ lw_all := lw_g (lw_at lw_m8 224 rfl) rfl
theorem q2012 : (Jvm.Cond.fieldLink "CrewPairerModel" (40 : Nat) "CrewPairerModel" "written" "[C") ∈ lw_all := lw_g (lw_at lw_m8 225 rfl) rfl
theorem q2013 : (Jvm.Cond.fieldLink "CrewPairerModel" (262 : Nat) "CrewPairerModel" "writtenMany" "I") ∈ lw_all := lw_g (lw_at lw_m8 226 rfl) rfl
theorem q2014 : (Jvm.Cond.fieldLink "CrewPairerModel" (44 : Nat) "CrewPairerModel" "text" "[C") ∈ lw_all := lw_g (lw_at lw_m8 227 rfl) rfl
theorem q2015 : (Jvm.Cond.fieldLink "CrewPairerModel" (290 : Nat) "CrewPairerModel" "length" "I") ∈ lw_all := lw_g (lw_at lw_m8 228 rfl) rfl
theorem q2016 : (Jvm.Cond.fieldLink "CrewPairerModel" (292 : Nat) "CrewPairerModel" "place" "I") ∈ lw_all := lw_g (lw_at lw_m8 229 rfl) rfl
theorem q2017 : (Jvm.Cond.fieldLink "CrewPairerModel" (322 : Nat) "CrewPairerModel" "isWrong" "Z") ∈ lw_all := lw_g (lw_at lw_m8 230 rfl) rfl
theorem q2018 : (Jvm.Cond.fieldLink "CrewPairerModel" (47 : Nat) "CrewPairerModel" "numbers" "[I") ∈ lw_all := lw_g (lw_at lw_m8 231 rfl) rfl
theorem q2019 : (Jvm.Cond.laysFinal "CrewPairerModel" "CrewPairerModel" "s" "[I") ∈ lw_all := lw_g (lw_at lw_m8 232 rfl) rfl
theorem q2020 : (Jvm.Cond.soleField "CrewPairerModel" "s") ∈ lw_all := lw_g (lw_at lw_m8 233 rfl) rfl
theorem q2021 : (Jvm.Cond.laysFinal "CrewPairerModel" "CrewPairerModel" "saved" "[I") ∈ lw_all := lw_g (lw_at lw_m8 234 rfl) rfl
theorem q2022 : (Jvm.Cond.soleField "CrewPairerModel" "saved") ∈ lw_all := lw_g (lw_at lw_m8 235 rfl) rfl
theorem q2023 : (Jvm.Cond.lays "CrewPairerModel" "CrewPairerModel" "isSaved" "Z") ∈ lw_all := lw_g (lw_at lw_m8 236 rfl) rfl
theorem q2024 : (Jvm.Cond.soleField "CrewPairerModel" "isSaved") ∈ lw_all := lw_g (lw_at lw_m8 237 rfl) rfl
theorem q2025 : (Jvm.Cond.laysFinal "CrewPairerModel" "CrewPairerModel" "past" "[I") ∈ lw_all := lw_g (lw_at lw_m8 238 rfl) rfl
theorem q2026 : (Jvm.Cond.soleField "CrewPairerModel" "past") ∈ lw_all := lw_g (lw_at lw_m8 239 rfl) rfl
theorem q2027 : (Jvm.Cond.lays "CrewPairerModel" "CrewPairerModel" "pastMany" "I") ∈ lw_all := lw_g (lw_at lw_m9 0 rfl) rfl
theorem q2028 : (Jvm.Cond.soleField "CrewPairerModel" "pastMany") ∈ lw_all := lw_g (lw_at lw_m9 1 rfl) rfl
theorem q2029 : (Jvm.Cond.laysFinal "CrewPairerModel" "CrewPairerModel" "before" "[I") ∈ lw_all := lw_g (lw_at lw_m9 2 rfl) rfl
theorem q2030 : (Jvm.Cond.soleField "CrewPairerModel" "before") ∈ lw_all := lw_g (lw_at lw_m9 3 rfl) rfl
theorem q2031 : (Jvm.Cond.lays "CrewPairerModel" "CrewPairerModel" "isQuiet" "Z") ∈ lw_all := lw_g (lw_at lw_m9 4 rfl) rfl
theorem q2032 : (Jvm.Cond.soleField "CrewPairerModel" "isQuiet") ∈ lw_all := lw_g (lw_at lw_m9 5 rfl) rfl
theorem q2033 : (Jvm.Cond.laysFinal "CrewPairerModel" "CrewPairerModel" "row" "[I") ∈ lw_all := lw_g (lw_at lw_m9 6 rfl) rfl
theorem q2034 : (Jvm.Cond.soleField "CrewPairerModel" "row") ∈ lw_all := lw_g (lw_at lw_m9 7 rfl) rfl
theorem q2035 : (Jvm.Cond.lays "CrewPairerModel" "CrewPairerModel" "many" "I") ∈ lw_all := lw_g (lw_at lw_m9 8 rfl) rfl
theorem q2036 : (Jvm.Cond.soleField "CrewPairerModel" "many") ∈ lw_all := lw_g (lw_at lw_m9 9 rfl) rfl
theorem q2037 : (Jvm.Cond.lays "CrewPairerModel" "CrewPairerModel" "base" "I") ∈ lw_all := lw_g (lw_at lw_m9 10 rfl) rfl
theorem q2038 : (Jvm.Cond.soleField "CrewPairerModel" "base") ∈ lw_all := lw_g (lw_at lw_m9 11 rfl) rfl
theorem q2039 : (Jvm.Cond.laysFinal "CrewPairerModel" "CrewPairerModel" "opens" "[I") ∈ lw_all := lw_g (lw_at lw_m9 12 rfl) rfl
theorem q2040 : (Jvm.Cond.soleField "CrewPairerModel" "opens") ∈ lw_all := lw_g (lw_at lw_m9 13 rfl) rfl
theorem q2041 : (Jvm.Cond.lays "CrewPairerModel" "CrewPairerModel" "openMany" "I") ∈ lw_all := lw_g (lw_at lw_m9 14 rfl) rfl
theorem q2042 : (Jvm.Cond.soleField "CrewPairerModel" "openMany") ∈ lw_all := lw_g (lw_at lw_m9 15 rfl) rfl
theorem q2043 : (Jvm.Cond.lays "CrewPairerModel" "CrewPairerModel" "offerCrew" "I") ∈ lw_all := lw_g (lw_at lw_m9 16 rfl) rfl
theorem q2044 : (Jvm.Cond.soleField "CrewPairerModel" "offerCrew") ∈ lw_all := lw_g (lw_at lw_m9 17 rfl) rfl
theorem q2045 : (Jvm.Cond.lays "CrewPairerModel" "CrewPairerModel" "offerLeg" "I") ∈ lw_all := lw_g (lw_at lw_m9 18 rfl) rfl
theorem q2046 : (Jvm.Cond.soleField "CrewPairerModel" "offerLeg") ∈ lw_all := lw_g (lw_at lw_m9 19 rfl) rfl
theorem q2047 : (Jvm.Cond.lays "CrewPairerModel" "CrewPairerModel" "offerPrice" "I") ∈ lw_all := lw_g (lw_at lw_m9 20 rfl) rfl
theorem q2048 : (Jvm.Cond.soleField "CrewPairerModel" "offerPrice") ∈ lw_all := lw_g (lw_at lw_m9 21 rfl) rfl
theorem q2049 : (Jvm.Cond.lays "CrewPairerModel" "CrewPairerModel" "offerMinutes" "I") ∈ lw_all := lw_g (lw_at lw_m9 22 rfl) rfl
theorem q2050 : (Jvm.Cond.soleField "CrewPairerModel" "offerMinutes") ∈ lw_all := lw_g (lw_at lw_m9 23 rfl) rfl
theorem q2051 : (Jvm.Cond.laysFinal "CrewPairerModel" "CrewPairerModel" "passed" "[I") ∈ lw_all := lw_g (lw_at lw_m9 24 rfl) rfl
theorem q2052 : (Jvm.Cond.soleField "CrewPairerModel" "passed") ∈ lw_all := lw_g (lw_at lw_m9 25 rfl) rfl
theorem q2053 : (Jvm.Cond.laysFinal "CrewPairerModel" "CrewPairerModel" "removed" "[I") ∈ lw_all := lw_g (lw_at lw_m9 26 rfl) rfl
theorem q2054 : (Jvm.Cond.soleField "CrewPairerModel" "removed") ∈ lw_all := lw_g (lw_at lw_m9 27 rfl) rfl
theorem q2055 : (Jvm.Cond.lays "CrewPairerModel" "CrewPairerModel" "removedMany" "I") ∈ lw_all := lw_g (lw_at lw_m9 28 rfl) rfl
theorem q2056 : (Jvm.Cond.soleField "CrewPairerModel" "removedMany") ∈ lw_all := lw_g (lw_at lw_m9 29 rfl) rfl
theorem q2057 : (Jvm.Cond.laysFinal "CrewPairerModel" "CrewPairerModel" "way" "[I") ∈ lw_all := lw_g (lw_at lw_m9 30 rfl) rfl
theorem q2058 : (Jvm.Cond.soleField "CrewPairerModel" "way") ∈ lw_all := lw_g (lw_at lw_m9 31 rfl) rfl
theorem q2059 : (Jvm.Cond.laysFinal "CrewPairerModel" "CrewPairerModel" "best" "[I") ∈ lw_all := lw_g (lw_at lw_m9 32 rfl) rfl
theorem q2060 : (Jvm.Cond.soleField "CrewPairerModel" "best") ∈ lw_all := lw_g (lw_at lw_m9 33 rfl) rfl
theorem q2061 : (Jvm.Cond.lays "CrewPairerModel" "CrewPairerModel" "bestMany" "I") ∈ lw_all := lw_g (lw_at lw_m9 34 rfl) rfl
theorem q2062 : (Jvm.Cond.soleField "CrewPairerModel" "bestMany") ∈ lw_all := lw_g (lw_at lw_m9 35 rfl) rfl
theorem q2063 : (Jvm.Cond.lays "CrewPairerModel" "CrewPairerModel" "bestMinutes" "I") ∈ lw_all := lw_g (lw_at lw_m9 36 rfl) rfl
theorem q2064 : (Jvm.Cond.soleField "CrewPairerModel" "bestMinutes") ∈ lw_all := lw_g (lw_at lw_m9 37 rfl) rfl
theorem q2065 : (Jvm.Cond.laysFinal "CrewPairerModel" "CrewPairerModel" "written" "[C") ∈ lw_all := lw_g (lw_at lw_m9 38 rfl) rfl
theorem q2066 : (Jvm.Cond.soleField "CrewPairerModel" "written") ∈ lw_all := lw_g (lw_at lw_m9 39 rfl) rfl
theorem q2067 : (Jvm.Cond.lays "CrewPairerModel" "CrewPairerModel" "writtenMany" "I") ∈ lw_all := lw_g (lw_at lw_m9 40 rfl) rfl
theorem q2068 : (Jvm.Cond.soleField "CrewPairerModel" "writtenMany") ∈ lw_all := lw_g (lw_at lw_m9 41 rfl) rfl
theorem q2069 : (Jvm.Cond.laysFinal "CrewPairerModel" "CrewPairerModel" "text" "[C") ∈ lw_all := lw_g (lw_at lw_m9 42 rfl) rfl
theorem q2070 : (Jvm.Cond.soleField "CrewPairerModel" "text") ∈ lw_all := lw_g (lw_at lw_m9 43 rfl) rfl
theorem q2071 : (Jvm.Cond.lays "CrewPairerModel" "CrewPairerModel" "length" "I") ∈ lw_all := lw_g (lw_at lw_m9 44 rfl) rfl
theorem q2072 : (Jvm.Cond.soleField "CrewPairerModel" "length") ∈ lw_all := lw_g (lw_at lw_m9 45 rfl) rfl
theorem q2073 : (Jvm.Cond.lays "CrewPairerModel" "CrewPairerModel" "place" "I") ∈ lw_all := lw_g (lw_at lw_m9 46 rfl) rfl
theorem q2074 : (Jvm.Cond.soleField "CrewPairerModel" "place") ∈ lw_all := lw_g (lw_at lw_m9 47 rfl) rfl
theorem q2075 : (Jvm.Cond.lays "CrewPairerModel" "CrewPairerModel" "isWrong" "Z") ∈ lw_all := lw_g (lw_at lw_m9 48 rfl) rfl
theorem q2076 : (Jvm.Cond.soleField "CrewPairerModel" "isWrong") ∈ lw_all := lw_g (lw_at lw_m9 49 rfl) rfl
theorem q2077 : (Jvm.Cond.laysFinal "CrewPairerModel" "CrewPairerModel" "numbers" "[I") ∈ lw_all := lw_g (lw_at lw_m9 50 rfl) rfl
theorem q2078 : (Jvm.Cond.soleField "CrewPairerModel" "numbers") ∈ lw_all := lw_g (lw_at lw_m9 51 rfl) rfl
theorem q2079 : (Jvm.Cond.superclass "CrewPairerModel" "java/lang/Object") ∈ lw_all := lw_g (lw_at lw_m9 52 rfl) rfl
theorem q2082 : (Jvm.Cond.instanceMethod ({ cls := "CrewPairerModel", name := "addLeg", desc := "(IIII)I" } : Jvm.MethodName)) ∈ lw_all := lw_g (lw_at lw_m9 55 rfl) rfl
theorem q2083 : (Jvm.Cond.selects "CrewPairerModel" ({ cls := "CrewPairerModel", name := "addLeg", desc := "(IIII)I" } : Jvm.MethodName) ({ cls := "CrewPairerModel", name := "addLeg", desc := "(IIII)I" } : Jvm.MethodName)) ∈ lw_all := lw_g (lw_at lw_m9 56 rfl) rfl
theorem q2084 : (Jvm.Cond.code ({ cls := "CrewPairerModel", name := "addLeg", desc := "(IIII)I" } : Jvm.MethodName) prog_12_method_12_code (7 : Nat) (Option.some Jvm.ClassFile.FieldType.int)) ∈ lw_all := lw_g (lw_at lw_m9 57 rfl) rfl
theorem q2085 : (Jvm.Cond.methodLink "CrewPairerModel" (59 : Nat) ({ cls := "CrewPairerModel", name := "in", desc := "(III)Z" } : Jvm.MethodName)) ∈ lw_all := lw_g (lw_at lw_m9 58 rfl) rfl
theorem q2086 : (Jvm.Cond.static ({ cls := "CrewPairerModel", name := "in", desc := "(III)Z" } : Jvm.MethodName)) ∈ lw_all := lw_g (lw_at lw_m9 59 rfl) rfl
theorem q2087 : (Jvm.Cond.code ({ cls := "CrewPairerModel", name := "in", desc := "(III)Z" } : Jvm.MethodName) prog_12_method_2_code (3 : Nat) (Option.some Jvm.ClassFile.FieldType.boolean)) ∈ lw_all := lw_g (lw_at lw_m9 60 rfl) rfl
theorem q2088 : (Jvm.Cond.methodLink "CrewPairerModel" (79 : Nat) ({ cls := "java/lang/Math", name := "min", desc := "(II)I" } : Jvm.MethodName)) ∈ lw_all := lw_g (lw_at lw_m9 61 rfl) rfl
theorem q2089 : (Jvm.Cond.methodLink "CrewPairerModel" (84 : Nat) ({ cls := "CrewPairerModel", name := "isThere", desc := "(IIII)Z" } : Jvm.MethodName)) ∈ lw_all := lw_g (lw_at lw_m9 62 rfl) rfl
theorem q2090 : (Jvm.Cond.privateMethod ({ cls := "CrewPairerModel", name := "isThere", desc := "(IIII)Z" } : Jvm.MethodName)) ∈ lw_tbl := lw_at lw_m9 63 rfl
theorem q2091 : (Jvm.Cond.instanceMethod ({ cls := "CrewPairerModel", name := "isThere", desc := "(IIII)Z" } : Jvm.MethodName)) ∈ lw_all := lw_g (lw_at lw_m9 64 rfl) rfl
theorem q2092 : (Jvm.Cond.code ({ cls := "CrewPairerModel", name := "isThere", desc := "(IIII)Z" } : Jvm.MethodName) prog_12_method_11_code (7 : Nat) (Option.some Jvm.ClassFile.FieldType.boolean)) ∈ lw_all := lw_g (lw_at lw_m9 65 rfl) rfl
theorem q2093 : (Jvm.Cond.methodLink "CrewPairerModel" (63 : Nat) ({ cls := "CrewPairerModel", name := "of", desc := "(II)I" } : Jvm.MethodName)) ∈ lw_all := lw_g (lw_at lw_m9 66 rfl) rfl
theorem q2094 : (Jvm.Cond.privateMethod ({ cls := "CrewPairerModel", name := "of", desc := "(II)I" } : Jvm.MethodName)) ∈ lw_tbl := lw_at lw_m9 67 rfl
theorem q2095 : (Jvm.Cond.instanceMethod ({ cls := "CrewPairerModel", name := "of", desc := "(II)I" } : Jvm.MethodName)) ∈ lw_all := lw_g (lw_at lw_m9 68 rfl) rfl
theorem q2096 : (Jvm.Cond.code ({ cls := "CrewPairerModel", name := "of", desc := "(II)I" } : Jvm.MethodName) prog_12_method_5_code (3 : Nat) (Option.some Jvm.ClassFile.FieldType.int)) ∈ lw_all := lw_g (lw_at lw_m9 69 rfl) rfl
theorem q2097 : (Jvm.Cond.methodLink "CrewPairerModel" (88 : Nat) ({ cls := "CrewPairerModel", name := "change", desc := "()V" } : Jvm.MethodName)) ∈ lw_all := lw_g (lw_at lw_m9 70 rfl) rfl
theorem q2098 : (Jvm.Cond.privateMethod ({ cls := "CrewPairerModel", name := "change", desc := "()V" } : Jvm.MethodName)) ∈ lw_tbl := lw_at lw_m9 71 rfl
theorem q2099 : (Jvm.Cond.instanceMethod ({ cls := "CrewPairerModel", name := "change", desc := "()V" } : Jvm.MethodName)) ∈ lw_all := lw_g (lw_at lw_m9 72 rfl) rfl
theorem q2100 : (Jvm.Cond.code ({ cls := "CrewPairerModel", name := "change", desc := "()V" } : Jvm.MethodName) prog_12_method_10_code (1 : Nat) (Option.none : Option Jvm.ClassFile.FieldType)) ∈ lw_all := lw_g (lw_at lw_m9 73 rfl) rfl
theorem q2101 : (Jvm.Cond.methodLink "CrewPairerModel" (75 : Nat) ({ cls := "CrewPairerModel", name := "push", desc := "([I)V" } : Jvm.MethodName)) ∈ lw_all := lw_g (lw_at lw_m9 74 rfl) rfl
theorem q2102 : (Jvm.Cond.privateMethod ({ cls := "CrewPairerModel", name := "push", desc := "([I)V" } : Jvm.MethodName)) ∈ lw_tbl := lw_at lw_m9 75 rfl
theorem q2103 : (Jvm.Cond.instanceMethod ({ cls := "CrewPairerModel", name := "push", desc := "([I)V" } : Jvm.MethodName)) ∈ lw_all := lw_g (lw_at lw_m9 76 rfl) rfl
theorem q2104 : (Jvm.Cond.code ({ cls := "CrewPairerModel", name := "push", desc := "([I)V" } : Jvm.MethodName) prog_12_method_9_code (2 : Nat) (Option.none : Option Jvm.ClassFile.FieldType)) ∈ lw_all := lw_g (lw_at lw_m9 77 rfl) rfl
theorem q2106 : (Jvm.Cond.instanceMethod ({ cls := "CrewPairerModel", name := "addCrew", desc := "(I)I" } : Jvm.MethodName)) ∈ lw_all := lw_g (lw_at lw_m9 79 rfl) rfl
theorem q2107 : (Jvm.Cond.selects "CrewPairerModel" ({ cls := "CrewPairerModel", name := "addCrew", desc := "(I)I" } : Jvm.MethodName) ({ cls := "CrewPairerModel", name := "addCrew", desc := "(I)I" } : Jvm.MethodName)) ∈ lw_all := lw_g (lw_at lw_m9 80 rfl) rfl
theorem q2108 : (Jvm.Cond.code ({ cls := "CrewPairerModel", name := "addCrew", desc := "(I)I" } : Jvm.MethodName) prog_12_method_13_code (4 : Nat) (Option.some Jvm.ClassFile.FieldType.int)) ∈ lw_all := lw_g (lw_at lw_m9 81 rfl) rfl
theorem q2109 : (Jvm.Cond.methodLink "CrewPairerModel" (91 : Nat) ({ cls := "CrewPairerModel", name := "crewAt", desc := "(II)I" } : Jvm.MethodName)) ∈ lw_all := lw_g (lw_at lw_m9 82 rfl) rfl
theorem q2110 : (Jvm.Cond.static ({ cls := "CrewPairerModel", name := "crewAt", desc := "(II)I" } : Jvm.MethodName)) ∈ lw_all := lw_g (lw_at lw_m9 83 rfl) rfl
theorem q2111 : (Jvm.Cond.code ({ cls := "CrewPairerModel", name := "crewAt", desc := "(II)I" } : Jvm.MethodName) prog_12_method_8_code (2 : Nat) (Option.some Jvm.ClassFile.FieldType.int)) ∈ lw_all := lw_g (lw_at lw_m9 84 rfl) rfl
theorem q2113 : (Jvm.Cond.instanceMethod ({ cls := "CrewPairerModel", name := "legCount", desc := "()I" } : Jvm.MethodName)) ∈ lw_all := lw_g (lw_at lw_m9 86 rfl) rfl
theorem q2114 : (Jvm.Cond.selects "CrewPairerModel" ({ cls := "CrewPairerModel", name := "legCount", desc := "()I" } : Jvm.MethodName) ({ cls := "CrewPairerModel", name := "legCount", desc := "()I" } : Jvm.MethodName)) ∈ lw_all := lw_g (lw_at lw_m9 87 rfl) rfl
theorem q2115 : (Jvm.Cond.code ({ cls := "CrewPairerModel", name := "legCount", desc := "()I" } : Jvm.MethodName) prog_12_method_14_code (1 : Nat) (Option.some Jvm.ClassFile.FieldType.int)) ∈ lw_all := lw_g (lw_at lw_m9 88 rfl) rfl
theorem q2117 : (Jvm.Cond.instanceMethod ({ cls := "CrewPairerModel", name := "crewCount", desc := "()I" } : Jvm.MethodName)) ∈ lw_all := lw_g (lw_at lw_m9 90 rfl) rfl
theorem q2118 : (Jvm.Cond.selects "CrewPairerModel" ({ cls := "CrewPairerModel", name := "crewCount", desc := "()I" } : Jvm.MethodName) ({ cls := "CrewPairerModel", name := "crewCount", desc := "()I" } : Jvm.MethodName)) ∈ lw_all := lw_g (lw_at lw_m9 91 rfl) rfl
theorem q2119 : (Jvm.Cond.code ({ cls := "CrewPairerModel", name := "crewCount", desc := "()I" } : Jvm.MethodName) prog_12_method_15_code (1 : Nat) (Option.some Jvm.ClassFile.FieldType.int)) ∈ lw_all := lw_g (lw_at lw_m9 92 rfl) rfl
theorem q2121 : (Jvm.Cond.instanceMethod ({ cls := "CrewPairerModel", name := "leg", desc := "(II)I" } : Jvm.MethodName)) ∈ lw_all := lw_g (lw_at lw_m9 94 rfl) rfl
theorem q2122 : (Jvm.Cond.selects "CrewPairerModel" ({ cls := "CrewPairerModel", name := "leg", desc := "(II)I" } : Jvm.MethodName) ({ cls := "CrewPairerModel", name := "leg", desc := "(II)I" } : Jvm.MethodName)) ∈ lw_all := lw_g (lw_at lw_m9 95 rfl) rfl
theorem q2123 : (Jvm.Cond.code ({ cls := "CrewPairerModel", name := "leg", desc := "(II)I" } : Jvm.MethodName) prog_12_method_18_code (3 : Nat) (Option.some Jvm.ClassFile.FieldType.int)) ∈ lw_all := lw_g (lw_at lw_m9 96 rfl) rfl
theorem q2124 : (Jvm.Cond.methodLink "CrewPairerModel" (100 : Nat) ({ cls := "CrewPairerModel", name := "isLeg", desc := "(I)Z" } : Jvm.MethodName)) ∈ lw_all := lw_g (lw_at lw_m9 97 rfl) rfl
theorem q2125 : (Jvm.Cond.privateMethod ({ cls := "CrewPairerModel", name := "isLeg", desc := "(I)Z" } : Jvm.MethodName)) ∈ lw_tbl := lw_at lw_m9 98 rfl
theorem q2126 : (Jvm.Cond.instanceMethod ({ cls := "CrewPairerModel", name := "isLeg", desc := "(I)Z" } : Jvm.MethodName)) ∈ lw_all := lw_g (lw_at lw_m9 99 rfl) rfl
theorem q2127 : (Jvm.Cond.code ({ cls := "CrewPairerModel", name := "isLeg", desc := "(I)Z" } : Jvm.MethodName) prog_12_method_3_code (2 : Nat) (Option.some Jvm.ClassFile.FieldType.boolean)) ∈ lw_all := lw_g (lw_at lw_m9 100 rfl) rfl
theorem q2128 : (Jvm.Cond.methodLink "CrewPairerModel" (104 : Nat) ({ cls := "CrewPairerModel", name := "flierOf", desc := "(I)I" } : Jvm.MethodName)) ∈ lw_all := lw_g (lw_at lw_m9 101 rfl) rfl
theorem q2129 : (Jvm.Cond.privateMethod ({ cls := "CrewPairerModel", name := "flierOf", desc := "(I)I" } : Jvm.MethodName)) ∈ lw_tbl := lw_at lw_m9 102 rfl
theorem q2130 : (Jvm.Cond.instanceMethod ({ cls := "CrewPairerModel", name := "flierOf", desc := "(I)I" } : Jvm.MethodName)) ∈ lw_all := lw_g (lw_at lw_m9 103 rfl) rfl
theorem q2131 : (Jvm.Cond.code ({ cls := "CrewPairerModel", name := "flierOf", desc := "(I)I" } : Jvm.MethodName) prog_12_method_17_code (4 : Nat) (Option.some Jvm.ClassFile.FieldType.int)) ∈ lw_all := lw_g (lw_at lw_m9 104 rfl) rfl
theorem q2132 : (Jvm.Cond.methodLink "CrewPairerModel" (97 : Nat) ({ cls := "CrewPairerModel", name := "placeIn", desc := "(II)I" } : Jvm.MethodName)) ∈ lw_all := lw_g (lw_at lw_m9 105 rfl) rfl
theorem q2133 : (Jvm.Cond.privateMethod ({ cls := "CrewPairerModel", name := "placeIn", desc := "(II)I" } : Jvm.MethodName)) ∈ lw_tbl := lw_at lw_m9 106 rfl
theorem q2134 : (Jvm.Cond.instanceMethod ({ cls := "CrewPairerModel", name := "placeIn", desc := "(II)I" } : Jvm.MethodName)) ∈ lw_all := lw_g (lw_at lw_m9 107 rfl) rfl
theorem q2135 : (Jvm.Cond.code ({ cls := "CrewPairerModel", name := "placeIn", desc := "(II)I" } : Jvm.MethodName) prog_12_method_16_code (4 : Nat) (Option.some Jvm.ClassFile.FieldType.int)) ∈ lw_all := lw_g (lw_at lw_m9 108 rfl) rfl
theorem q2136 : (Jvm.Cond.methodLink "CrewPairerModel" (94 : Nat) ({ cls := "CrewPairerModel", name := "ofCrew", desc := "(II)I" } : Jvm.MethodName)) ∈ lw_all := lw_g (lw_at lw_m9 109 rfl) rfl
theorem q2137 : (Jvm.Cond.privateMethod ({ cls := "CrewPairerModel", name := "ofCrew", desc := "(II)I" } : Jvm.MethodName)) ∈ lw_tbl := lw_at lw_m9 110 rfl
theorem q2138 : (Jvm.Cond.instanceMethod ({ cls := "CrewPairerModel", name := "ofCrew", desc := "(II)I" } : Jvm.MethodName)) ∈ lw_all := lw_g (lw_at lw_m9 111 rfl) rfl
theorem q2139 : (Jvm.Cond.code ({ cls := "CrewPairerModel", name := "ofCrew", desc := "(II)I" } : Jvm.MethodName) prog_12_method_7_code (3 : Nat) (Option.some Jvm.ClassFile.FieldType.int)) ∈ lw_all := lw_g (lw_at lw_m9 112 rfl) rfl
theorem q2141 : (Jvm.Cond.instanceMethod ({ cls := "CrewPairerModel", name := "setRule", desc := "(II)I" } : Jvm.MethodName)) ∈ lw_all := lw_g (lw_at lw_m9 114 rfl) rfl
theorem q2142 : (Jvm.Cond.selects "CrewPairerModel" ({ cls := "CrewPairerModel", name := "setRule", desc := "(II)I" } : Jvm.MethodName) ({ cls := "CrewPairerModel", name := "setRule", desc := "(II)I" } : Jvm.MethodName)) ∈ lw_all := lw_g (lw_at lw_m9 115 rfl) rfl
theorem q2143 : (Jvm.Cond.code ({ cls := "CrewPairerModel", name := "setRule", desc := "(II)I" } : Jvm.MethodName) prog_12_method_19_code (4 : Nat) (Option.some Jvm.ClassFile.FieldType.int)) ∈ lw_all := lw_g (lw_at lw_m9 116 rfl) rfl
theorem q2144 : (Jvm.Cond.fieldLink "CrewPairerModel" (108 : Nat) "CrewPairerModel" "LEAST" "[I") ∈ lw_all := lw_g (lw_at lw_m9 117 rfl) rfl
theorem q2145 : (Jvm.Cond.laysStatic "CrewPairerModel" "LEAST" "[I") ∈ lw_tbl := lw_at lw_m9 118 rfl
theorem q2146 : (Jvm.Cond.fieldLink "CrewPairerModel" (111 : Nat) "CrewPairerModel" "MOST" "[I") ∈ lw_all := lw_g (lw_at lw_m9 119 rfl) rfl
theorem q2147 : (Jvm.Cond.laysStatic "CrewPairerModel" "MOST" "[I") ∈ lw_tbl := lw_at lw_m9 120 rfl
theorem q2149 : (Jvm.Cond.instanceMethod ({ cls := "CrewPairerModel", name := "rule", desc := "(I)I" } : Jvm.MethodName)) ∈ lw_all := lw_g (lw_at lw_m9 122 rfl) rfl
theorem q2150 : (Jvm.Cond.selects "CrewPairerModel" ({ cls := "CrewPairerModel", name := "rule", desc := "(I)I" } : Jvm.MethodName) ({ cls := "CrewPairerModel", name := "rule", desc := "(I)I" } : Jvm.MethodName)) ∈ lw_all := lw_g (lw_at lw_m9 123 rfl) rfl
theorem q2151 : (Jvm.Cond.code ({ cls := "CrewPairerModel", name := "rule", desc := "(I)I" } : Jvm.MethodName) prog_12_method_20_code (2 : Nat) (Option.some Jvm.ClassFile.FieldType.int)) ∈ lw_all := lw_g (lw_at lw_m9 124 rfl) rfl
theorem q2153 : (Jvm.Cond.instanceMethod ({ cls := "CrewPairerModel", name := "fly", desc := "(II)I" } : Jvm.MethodName)) ∈ lw_all := lw_g (lw_at lw_m9 126 rfl) rfl
theorem q2154 : (Jvm.Cond.selects "CrewPairerModel" ({ cls := "CrewPairerModel", name := "fly", desc := "(II)I" } : Jvm.MethodName) ({ cls := "CrewPairerModel", name := "fly", desc := "(II)I" } : Jvm.MethodName)) ∈ lw_all := lw_g (lw_at lw_m9 127 rfl) rfl
theorem q2155 : (Jvm.Cond.code ({ cls := "CrewPairerModel", name := "fly", desc := "(II)I" } : Jvm.MethodName) prog_12_method_40_code (3 : Nat) (Option.some Jvm.ClassFile.FieldType.int)) ∈ lw_all := lw_g (lw_at lw_m9 128 rfl) rfl
theorem q2156 : (Jvm.Cond.methodLink "CrewPairerModel" (183 : Nat) ({ cls := "CrewPairerModel", name := "assign", desc := "(IIZ)I" } : Jvm.MethodName)) ∈ lw_all := lw_g (lw_at lw_m9 129 rfl) rfl
theorem q2157 : (Jvm.Cond.privateMethod ({ cls := "CrewPairerModel", name := "assign", desc := "(IIZ)I" } : Jvm.MethodName)) ∈ lw_tbl := lw_at lw_m9 130 rfl
theorem q2158 : (Jvm.Cond.instanceMethod ({ cls := "CrewPairerModel", name := "assign", desc := "(IIZ)I" } : Jvm.MethodName)) ∈ lw_all := lw_g (lw_at lw_m9 131 rfl) rfl
theorem q2159 : (Jvm.Cond.code ({ cls := "CrewPairerModel", name := "assign", desc := "(IIZ)I" } : Jvm.MethodName) prog_12_method_39_code (5 : Nat) (Option.some Jvm.ClassFile.FieldType.int)) ∈ lw_all := lw_g (lw_at lw_m9 132 rfl) rfl
theorem q2160 : (Jvm.Cond.methodLink "CrewPairerModel" (174 : Nat) ({ cls := "CrewPairerModel", name := "isCrew", desc := "(I)Z" } : Jvm.MethodName)) ∈ lw_all := lw_g (lw_at lw_m9 133 rfl) rfl
theorem q2161 : (Jvm.Cond.privateMethod ({ cls := "CrewPairerModel", name := "isCrew", desc := "(I)Z" } : Jvm.MethodName)) ∈ lw_tbl := lw_at lw_m9 134 rfl
theorem q2162 : (Jvm.Cond.instanceMethod ({ cls := "CrewPairerModel", name := "isCrew", desc := "(I)Z" } : Jvm.MethodName)) ∈ lw_all := lw_g (lw_at lw_m9 135 rfl) rfl
theorem q2163 : (Jvm.Cond.code ({ cls := "CrewPairerModel", name := "isCrew", desc := "(I)Z" } : Jvm.MethodName) prog_12_method_4_code (2 : Nat) (Option.some Jvm.ClassFile.FieldType.boolean)) ∈ lw_all := lw_g (lw_at lw_m9 136 rfl) rfl
theorem q2164 : (Jvm.Cond.methodLink "CrewPairerModel" (177 : Nat) ({ cls := "CrewPairerModel", name := "hinders", desc := "(IIZ)I" } : Jvm.MethodName)) ∈ lw_all := lw_g (lw_at lw_m9 137 rfl) rfl
theorem q2165 : (Jvm.Cond.privateMethod ({ cls := "CrewPairerModel", name := "hinders", desc := "(IIZ)I" } : Jvm.MethodName)) ∈ lw_tbl := lw_at lw_m9 138 rfl
theorem q2166 : (Jvm.Cond.instanceMethod ({ cls := "CrewPairerModel", name := "hinders", desc := "(IIZ)I" } : Jvm.MethodName)) ∈ lw_all := lw_g (lw_at lw_m9 139 rfl) rfl
theorem q2167 : (Jvm.Cond.code ({ cls := "CrewPairerModel", name := "hinders", desc := "(IIZ)I" } : Jvm.MethodName) prog_12_method_37_code (4 : Nat) (Option.some Jvm.ClassFile.FieldType.int)) ∈ lw_all := lw_g (lw_at lw_m9 140 rfl) rfl
theorem q2168 : (Jvm.Cond.methodLink "CrewPairerModel" (165 : Nat) ({ cls := "CrewPairerModel", name := "take", desc := "(I)V" } : Jvm.MethodName)) ∈ lw_all := lw_g (lw_at lw_m9 141 rfl) rfl
theorem q2169 : (Jvm.Cond.privateMethod ({ cls := "CrewPairerModel", name := "take", desc := "(I)V" } : Jvm.MethodName)) ∈ lw_tbl := lw_at lw_m9 142 rfl
theorem q2170 : (Jvm.Cond.instanceMethod ({ cls := "CrewPairerModel", name := "take", desc := "(I)V" } : Jvm.MethodName)) ∈ lw_all := lw_g (lw_at lw_m9 143 rfl) rfl
theorem q2171 : (Jvm.Cond.code ({ cls := "CrewPairerModel", name := "take", desc := "(I)V" } : Jvm.MethodName) prog_12_method_21_code (2 : Nat) (Option.none : Option Jvm.ClassFile.FieldType)) ∈ lw_all := lw_g (lw_at lw_m9 144 rfl) rfl
theorem q2172 : (Jvm.Cond.methodLink "CrewPairerModel" (168 : Nat) ({ cls := "CrewPairerModel", name := "hinders", desc := "(IZ)I" } : Jvm.MethodName)) ∈ lw_all := lw_g (lw_at lw_m9 145 rfl) rfl
theorem q2173 : (Jvm.Cond.privateMethod ({ cls := "CrewPairerModel", name := "hinders", desc := "(IZ)I" } : Jvm.MethodName)) ∈ lw_tbl := lw_at lw_m9 146 rfl
theorem q2174 : (Jvm.Cond.instanceMethod ({ cls := "CrewPairerModel", name := "hinders", desc := "(IZ)I" } : Jvm.MethodName)) ∈ lw_all := lw_g (lw_at lw_m9 147 rfl) rfl
theorem q2175 : (Jvm.Cond.code ({ cls := "CrewPairerModel", name := "hinders", desc := "(IZ)I" } : Jvm.MethodName) prog_12_method_36_code (5 : Nat) (Option.some Jvm.ClassFile.FieldType.int)) ∈ lw_all := lw_g (lw_at lw_m9 148 rfl) rfl
theorem q2176 : (Jvm.Cond.methodLink "CrewPairerModel" (120 : Nat) ({ cls := "CrewPairerModel", name := "legAt", desc := "(I)I" } : Jvm.MethodName)) ∈ lw_all := lw_g (lw_at lw_m9 149 rfl) rfl
theorem q2177 : (Jvm.Cond.privateMethod ({ cls := "CrewPairerModel", name := "legAt", desc := "(I)I" } : Jvm.MethodName)) ∈ lw_tbl := lw_at lw_m9 150 rfl
theorem q2178 : (Jvm.Cond.instanceMethod ({ cls := "CrewPairerModel", name := "legAt", desc := "(I)I" } : Jvm.MethodName)) ∈ lw_all := lw_g (lw_at lw_m9 151 rfl) rfl
theorem q2179 : (Jvm.Cond.code ({ cls := "CrewPairerModel", name := "legAt", desc := "(I)I" } : Jvm.MethodName) prog_12_method_23_code (2 : Nat) (Option.some Jvm.ClassFile.FieldType.int)) ∈ lw_all := lw_g (lw_at lw_m9 152 rfl) rfl
theorem q2180 : (Jvm.Cond.methodLink "CrewPairerModel" (157 : Nat) ({ cls := "CrewPairerModel", name := "put", desc := "(IZ)I" } : Jvm.MethodName)) ∈ lw_all := lw_g (lw_at lw_m9 153 rfl) rfl
theorem q2181 : (Jvm.Cond.privateMethod ({ cls := "CrewPairerModel", name := "put", desc := "(IZ)I" } : Jvm.MethodName)) ∈ lw_tbl := lw_at lw_m9 154 rfl
theorem q2182 : (Jvm.Cond.instanceMethod ({ cls := "CrewPairerModel", name := "put", desc := "(IZ)I" } : Jvm.MethodName)) ∈ lw_all := lw_g (lw_at lw_m9 155 rfl) rfl
theorem q2183 : (Jvm.Cond.code ({ cls := "CrewPairerModel", name := "put", desc := "(IZ)I" } : Jvm.MethodName) prog_12_method_25_code (4 : Nat) (Option.some Jvm.ClassFile.FieldType.int)) ∈ lw_all := lw_g (lw_at lw_m9 156 rfl) rfl
theorem q2184 : (Jvm.Cond.methodLink "CrewPairerModel" (154 : Nat) ({ cls := "CrewPairerModel", name := "violationAt", desc := "(I)I" } : Jvm.MethodName)) ∈ lw_all := lw_g (lw_at lw_m9 157 rfl) rfl
theorem q2185 : (Jvm.Cond.privateMethod ({ cls := "CrewPairerModel", name := "violationAt", desc := "(I)I" } : Jvm.MethodName)) ∈ lw_tbl := lw_at lw_m9 158 rfl
theorem q2186 : (Jvm.Cond.instanceMethod ({ cls := "CrewPairerModel", name := "violationAt", desc := "(I)I" } : Jvm.MethodName)) ∈ lw_all := lw_g (lw_at lw_m9 159 rfl) rfl
theorem q2187 : (Jvm.Cond.code ({ cls := "CrewPairerModel", name := "violationAt", desc := "(I)I" } : Jvm.MethodName) prog_12_method_34_code (5 : Nat) (Option.some Jvm.ClassFile.FieldType.int)) ∈ lw_all := lw_g (lw_at lw_m9 160 rfl) rfl
theorem q2188 : (Jvm.Cond.methodLink "CrewPairerModel" (150 : Nat) ({ cls := "CrewPairerModel", name := "violates", desc := "(II)Z" } : Jvm.MethodName)) ∈ lw_all := lw_g (lw_at lw_m9 161 rfl) rfl
theorem q2189 : (Jvm.Cond.privateMethod ({ cls := "CrewPairerModel", name := "violates", desc := "(II)Z" } : Jvm.MethodName)) ∈ lw_tbl := lw_at lw_m9 162 rfl
theorem q2190 : (Jvm.Cond.instanceMethod ({ cls := "CrewPairerModel", name := "violates", desc := "(II)Z" } : Jvm.MethodName)) ∈ lw_all := lw_g (lw_at lw_m9 163 rfl) rfl
theorem q2191 : (Jvm.Cond.code ({ cls := "CrewPairerModel", name := "violates", desc := "(II)Z" } : Jvm.MethodName) prog_12_method_33_code (3 : Nat) (Option.some Jvm.ClassFile.FieldType.boolean)) ∈ lw_all := lw_g (lw_at lw_m9 164 rfl) rfl
theorem q2192 : (Jvm.Cond.methodLink "CrewPairerModel" (123 : Nat) ({ cls := "CrewPairerModel", name := "gapBefore", desc := "(I)I" } : Jvm.MethodName)) ∈ lw_all := lw_g (lw_at lw_m9 165 rfl) rfl
theorem q2193 : (Jvm.Cond.privateMethod ({ cls := "CrewPairerModel", name := "gapBefore", desc := "(I)I" } : Jvm.MethodName)) ∈ lw_tbl := lw_at lw_m9 166 rfl
theorem q2194 : (Jvm.Cond.instanceMethod ({ cls := "CrewPairerModel", name := "gapBefore", desc := "(I)I" } : Jvm.MethodName)) ∈ lw_all := lw_g (lw_at lw_m9 167 rfl) rfl
theorem q2195 : (Jvm.Cond.code ({ cls := "CrewPairerModel", name := "gapBefore", desc := "(I)I" } : Jvm.MethodName) prog_12_method_27_code (2 : Nat) (Option.some Jvm.ClassFile.FieldType.int)) ∈ lw_all := lw_g (lw_at lw_m9 168 rfl) rfl
theorem q2196 : (Jvm.Cond.methodLink "CrewPairerModel" (126 : Nat) ({ cls := "CrewPairerModel", name := "beginsDuty", desc := "(I)Z" } : Jvm.MethodName)) ∈ lw_all := lw_g (lw_at lw_m9 169 rfl) rfl
theorem q2197 : (Jvm.Cond.privateMethod ({ cls := "CrewPairerModel", name := "beginsDuty", desc := "(I)Z" } : Jvm.MethodName)) ∈ lw_tbl := lw_at lw_m9 170 rfl
theorem q2198 : (Jvm.Cond.instanceMethod ({ cls := "CrewPairerModel", name := "beginsDuty", desc := "(I)Z" } : Jvm.MethodName)) ∈ lw_all := lw_g (lw_at lw_m9 171 rfl) rfl
theorem q2199 : (Jvm.Cond.code ({ cls := "CrewPairerModel", name := "beginsDuty", desc := "(I)Z" } : Jvm.MethodName) prog_12_method_28_code (2 : Nat) (Option.some Jvm.ClassFile.FieldType.boolean)) ∈ lw_all := lw_g (lw_at lw_m9 172 rfl) rfl
theorem q2200 : (Jvm.Cond.methodLink "CrewPairerModel" (141 : Nat) ({ cls := "CrewPairerModel", name := "dutyMinutes", desc := "(I)I" } : Jvm.MethodName)) ∈ lw_all := lw_g (lw_at lw_m9 173 rfl) rfl
theorem q2201 : (Jvm.Cond.privateMethod ({ cls := "CrewPairerModel", name := "dutyMinutes", desc := "(I)I" } : Jvm.MethodName)) ∈ lw_tbl := lw_at lw_m9 174 rfl
theorem q2202 : (Jvm.Cond.instanceMethod ({ cls := "CrewPairerModel", name := "dutyMinutes", desc := "(I)I" } : Jvm.MethodName)) ∈ lw_all := lw_g (lw_at lw_m9 175 rfl) rfl
theorem q2203 : (Jvm.Cond.code ({ cls := "CrewPairerModel", name := "dutyMinutes", desc := "(I)I" } : Jvm.MethodName) prog_12_method_30_code (2 : Nat) (Option.some Jvm.ClassFile.FieldType.int)) ∈ lw_all := lw_g (lw_at lw_m9 176 rfl) rfl
theorem q2204 : (Jvm.Cond.methodLink "CrewPairerModel" (129 : Nat) ({ cls := "CrewPairerModel", name := "dutyEnd", desc := "(I)I" } : Jvm.MethodName)) ∈ lw_all := lw_g (lw_at lw_m9 177 rfl) rfl
theorem q2205 : (Jvm.Cond.privateMethod ({ cls := "CrewPairerModel", name := "dutyEnd", desc := "(I)I" } : Jvm.MethodName)) ∈ lw_tbl := lw_at lw_m9 178 rfl
theorem q2206 : (Jvm.Cond.instanceMethod ({ cls := "CrewPairerModel", name := "dutyEnd", desc := "(I)I" } : Jvm.MethodName)) ∈ lw_all := lw_g (lw_at lw_m9 179 rfl) rfl
theorem q2207 : (Jvm.Cond.code ({ cls := "CrewPairerModel", name := "dutyEnd", desc := "(I)I" } : Jvm.MethodName) prog_12_method_29_code (3 : Nat) (Option.some Jvm.ClassFile.FieldType.int)) ∈ lw_all := lw_g (lw_at lw_m9 180 rfl) rfl
theorem q2208 : (Jvm.Cond.methodLink "CrewPairerModel" (144 : Nat) ({ cls := "CrewPairerModel", name := "flownFrom", desc := "(II)I" } : Jvm.MethodName)) ∈ lw_all := lw_g (lw_at lw_m9 181 rfl) rfl
theorem q2209 : (Jvm.Cond.privateMethod ({ cls := "CrewPairerModel", name := "flownFrom", desc := "(II)I" } : Jvm.MethodName)) ∈ lw_tbl := lw_at lw_m9 182 rfl
theorem q2210 : (Jvm.Cond.instanceMethod ({ cls := "CrewPairerModel", name := "flownFrom", desc := "(II)I" } : Jvm.MethodName)) ∈ lw_all := lw_g (lw_at lw_m9 183 rfl) rfl
theorem q2211 : (Jvm.Cond.code ({ cls := "CrewPairerModel", name := "flownFrom", desc := "(II)I" } : Jvm.MethodName) prog_12_method_31_code (5 : Nat) (Option.some Jvm.ClassFile.FieldType.int)) ∈ lw_all := lw_g (lw_at lw_m9 184 rfl) rfl
theorem q2212 : (Jvm.Cond.methodLink "CrewPairerModel" (132 : Nat) ({ cls := "CrewPairerModel", name := "isFlown", desc := "(I)Z" } : Jvm.MethodName)) ∈ lw_all := lw_g (lw_at lw_m9 185 rfl) rfl
theorem q2213 : (Jvm.Cond.privateMethod ({ cls := "CrewPairerModel", name := "isFlown", desc := "(I)Z" } : Jvm.MethodName)) ∈ lw_tbl := lw_at lw_m9 186 rfl
theorem q2214 : (Jvm.Cond.instanceMethod ({ cls := "CrewPairerModel", name := "isFlown", desc := "(I)Z" } : Jvm.MethodName)) ∈ lw_all := lw_g (lw_at lw_m9 187 rfl) rfl
theorem q2215 : (Jvm.Cond.code ({ cls := "CrewPairerModel", name := "isFlown", desc := "(I)Z" } : Jvm.MethodName) prog_12_method_24_code (2 : Nat) (Option.some Jvm.ClassFile.FieldType.boolean)) ∈ lw_all := lw_g (lw_at lw_m9 188 rfl) rfl
theorem q2216 : (Jvm.Cond.methodLink "CrewPairerModel" (135 : Nat) ({ cls := "CrewPairerModel", name := "lengthOf", desc := "(I)I" } : Jvm.MethodName)) ∈ lw_all := lw_g (lw_at lw_m9 189 rfl) rfl
theorem q2217 : (Jvm.Cond.privateMethod ({ cls := "CrewPairerModel", name := "lengthOf", desc := "(I)I" } : Jvm.MethodName)) ∈ lw_tbl := lw_at lw_m9 190 rfl
theorem q2218 : (Jvm.Cond.instanceMethod ({ cls := "CrewPairerModel", name := "lengthOf", desc := "(I)I" } : Jvm.MethodName)) ∈ lw_all := lw_g (lw_at lw_m9 191 rfl) rfl
theorem q2219 : (Jvm.Cond.code ({ cls := "CrewPairerModel", name := "lengthOf", desc := "(I)I" } : Jvm.MethodName) prog_12_method_6_code (2 : Nat) (Option.some Jvm.ClassFile.FieldType.int)) ∈ lw_all := lw_g (lw_at lw_m9 192 rfl) rfl
theorem q2220 : (Jvm.Cond.methodLink "CrewPairerModel" (147 : Nat) ({ cls := "CrewPairerModel", name := "flownWithin", desc := "(II)I" } : Jvm.MethodName)) ∈ lw_all := lw_g (lw_at lw_m9 193 rfl) rfl
theorem q2221 : (Jvm.Cond.privateMethod ({ cls := "CrewPairerModel", name := "flownWithin", desc := "(II)I" } : Jvm.MethodName)) ∈ lw_tbl := lw_at lw_m9 194 rfl
theorem q2222 : (Jvm.Cond.instanceMethod ({ cls := "CrewPairerModel", name := "flownWithin", desc := "(II)I" } : Jvm.MethodName)) ∈ lw_all := lw_g (lw_at lw_m9 195 rfl) rfl
theorem q2223 : (Jvm.Cond.code ({ cls := "CrewPairerModel", name := "flownWithin", desc := "(II)I" } : Jvm.MethodName) prog_12_method_32_code (7 : Nat) (Option.some Jvm.ClassFile.FieldType.int)) ∈ lw_all := lw_g (lw_at lw_m9 196 rfl) rfl
theorem q2224 : (Jvm.Cond.methodLink "CrewPairerModel" (138 : Nat) ({ cls := "java/lang/Math", name := "max", desc := "(II)I" } : Jvm.MethodName)) ∈ lw_all := lw_g (lw_at lw_m9 197 rfl) rfl
theorem q2225 : (Jvm.Cond.methodLink "CrewPairerModel" (161 : Nat) ({ cls := "CrewPairerModel", name := "takeOut", desc := "(I)V" } : Jvm.MethodName)) ∈ lw_all := lw_g (lw_at lw_m9 198 rfl) rfl
theorem q2226 : (Jvm.Cond.privateMethod ({ cls := "CrewPairerModel", name := "takeOut", desc := "(I)V" } : Jvm.MethodName)) ∈ lw_tbl := lw_at lw_m9 199 rfl
theorem q2227 : (Jvm.Cond.instanceMethod ({ cls := "CrewPairerModel", name := "takeOut", desc := "(I)V" } : Jvm.MethodName)) ∈ lw_all := lw_g (lw_at lw_m9 200 rfl) rfl
theorem q2228 : (Jvm.Cond.code ({ cls := "CrewPairerModel", name := "takeOut", desc := "(I)V" } : Jvm.MethodName) prog_12_method_26_code (3 : Nat) (Option.none : Option Jvm.ClassFile.FieldType)) ∈ lw_all := lw_g (lw_at lw_m9 201 rfl) rfl
theorem q2229 : (Jvm.Cond.methodLink "CrewPairerModel" (180 : Nat) ({ cls := "CrewPairerModel", name := "enter", desc := "(IIZ)I" } : Jvm.MethodName)) ∈ lw_all := lw_g (lw_at lw_m9 202 rfl) rfl
theorem q2230 : (Jvm.Cond.privateMethod ({ cls := "CrewPairerModel", name := "enter", desc := "(IIZ)I" } : Jvm.MethodName)) ∈ lw_tbl := lw_at lw_m9 203 rfl
theorem q2231 : (Jvm.Cond.instanceMethod ({ cls := "CrewPairerModel", name := "enter", desc := "(IIZ)I" } : Jvm.MethodName)) ∈ lw_all := lw_g (lw_at lw_m9 204 rfl) rfl
theorem q2232 : (Jvm.Cond.code ({ cls := "CrewPairerModel", name := "enter", desc := "(IIZ)I" } : Jvm.MethodName) prog_12_method_38_code (5 : Nat) (Option.some Jvm.ClassFile.FieldType.int)) ∈ lw_all := lw_g (lw_at lw_m9 205 rfl) rfl
theorem q2233 : (Jvm.Cond.methodLink "CrewPairerModel" (171 : Nat) ({ cls := "CrewPairerModel", name := "give", desc := "(I)V" } : Jvm.MethodName)) ∈ lw_all := lw_g (lw_at lw_m9 206 rfl) rfl
theorem q2234 : (Jvm.Cond.privateMethod ({ cls := "CrewPairerModel", name := "give", desc := "(I)V" } : Jvm.MethodName)) ∈ lw_tbl := lw_at lw_m9 207 rfl
theorem q2235 : (Jvm.Cond.instanceMethod ({ cls := "CrewPairerModel", name := "give", desc := "(I)V" } : Jvm.MethodName)) ∈ lw_all := lw_g (lw_at lw_m9 208 rfl) rfl
theorem q2236 : (Jvm.Cond.code ({ cls := "CrewPairerModel", name := "give", desc := "(I)V" } : Jvm.MethodName) prog_12_method_22_code (2 : Nat) (Option.none : Option Jvm.ClassFile.FieldType)) ∈ lw_all := lw_g (lw_at lw_m9 209 rfl) rfl
theorem q2238 : (Jvm.Cond.instanceMethod ({ cls := "CrewPairerModel", name := "ride", desc := "(II)I" } : Jvm.MethodName)) ∈ lw_all := lw_g (lw_at lw_m9 211 rfl) rfl
theorem q2239 : (Jvm.Cond.selects "CrewPairerModel" ({ cls := "CrewPairerModel", name := "ride", desc := "(II)I" } : Jvm.MethodName) ({ cls := "CrewPairerModel", name := "ride", desc := "(II)I" } : Jvm.MethodName)) ∈ lw_all := lw_g (lw_at lw_m9 212 rfl) rfl
theorem q2240 : (Jvm.Cond.code ({ cls := "CrewPairerModel", name := "ride", desc := "(II)I" } : Jvm.MethodName) prog_12_method_41_code (3 : Nat) (Option.some Jvm.ClassFile.FieldType.int)) ∈ lw_all := lw_g (lw_at lw_m9 213 rfl) rfl
theorem q2242 : (Jvm.Cond.instanceMethod ({ cls := "CrewPairerModel", name := "drop", desc := "(II)I" } : Jvm.MethodName)) ∈ lw_all := lw_g (lw_at lw_m9 215 rfl) rfl
theorem q2243 : (Jvm.Cond.selects "CrewPairerModel" ({ cls := "CrewPairerModel", name := "drop", desc := "(II)I" } : Jvm.MethodName) ({ cls := "CrewPairerModel", name := "drop", desc := "(II)I" } : Jvm.MethodName)) ∈ lw_all := lw_g (lw_at lw_m9 216 rfl) rfl
theorem q2244 : (Jvm.Cond.code ({ cls := "CrewPairerModel", name := "drop", desc := "(II)I" } : Jvm.MethodName) prog_12_method_42_code (4 : Nat) (Option.some Jvm.ClassFile.FieldType.int)) ∈ lw_all := lw_g (lw_at lw_m9 217 rfl) rfl
theorem q2246 : (Jvm.Cond.instanceMethod ({ cls := "CrewPairerModel", name := "reason", desc := "(IIZ)I" } : Jvm.MethodName)) ∈ lw_all := lw_g (lw_at lw_m9 219 rfl) rfl
theorem q2247 : (Jvm.Cond.selects "CrewPairerModel" ({ cls := "CrewPairerModel", name := "reason", desc := "(IIZ)I" } : Jvm.MethodName) ({ cls := "CrewPairerModel", name := "reason", desc := "(IIZ)I" } : Jvm.MethodName)) ∈ lw_all := lw_g (lw_at lw_m9 220 rfl) rfl
theorem q2248 : (Jvm.Cond.code ({ cls := "CrewPairerModel", name := "reason", desc := "(IIZ)I" } : Jvm.MethodName) prog_12_method_43_code (4 : Nat) (Option.some Jvm.ClassFile.FieldType.int)) ∈ lw_all := lw_g (lw_at lw_m9 221 rfl) rfl
theorem q2250 : (Jvm.Cond.instanceMethod ({ cls := "CrewPairerModel", name := "place", desc := "(IIZ)I" } : Jvm.MethodName)) ∈ lw_all := lw_g (lw_at lw_m9 223 rfl) rfl
theorem q2251 : (Jvm.Cond.selects "CrewPairerModel" ({ cls := "CrewPairerModel", name := "place", desc := "(IIZ)I" } : Jvm.MethodName) ({ cls := "CrewPairerModel", name := "place", desc := "(IIZ)I" } : Jvm.MethodName)) ∈ lw_all := lw_g (lw_at lw_m9 224 rfl) rfl
theorem q2252 : (Jvm.Cond.code ({ cls := "CrewPairerModel", name := "place", desc := "(IIZ)I" } : Jvm.MethodName) prog_12_method_44_code (5 : Nat) (Option.some Jvm.ClassFile.FieldType.int)) ∈ lw_all := lw_g (lw_at lw_m9 225 rfl) rfl
theorem q2254 : (Jvm.Cond.instanceMethod ({ cls := "CrewPairerModel", name := "itemCount", desc := "(I)I" } : Jvm.MethodName)) ∈ lw_all := lw_g (lw_at lw_m9 227 rfl) rfl
theorem q2255 : (Jvm.Cond.selects "CrewPairerModel" ({ cls := "CrewPairerModel", name := "itemCount", desc := "(I)I" } : Jvm.MethodName) ({ cls := "CrewPairerModel", name := "itemCount", desc := "(I)I" } : Jvm.MethodName)) ∈ lw_all := lw_g (lw_at lw_m9 228 rfl) rfl
theorem q2256 : (Jvm.Cond.code ({ cls := "CrewPairerModel", name := "itemCount", desc := "(I)I" } : Jvm.MethodName) prog_12_method_45_code (2 : Nat) (Option.some Jvm.ClassFile.FieldType.int)) ∈ lw_all := lw_g (lw_at lw_m9 229 rfl) rfl
theorem q2258 : (Jvm.Cond.instanceMethod ({ cls := "CrewPairerModel", name := "item", desc := "(III)I" } : Jvm.MethodName)) ∈ lw_all := lw_g (lw_at lw_m9 231 rfl) rfl
theorem q2259 : (Jvm.Cond.selects "CrewPairerModel" ({ cls := "CrewPairerModel", name := "item", desc := "(III)I" } : Jvm.MethodName) ({ cls := "CrewPairerModel", name := "item", desc := "(III)I" } : Jvm.MethodName)) ∈ lw_all := lw_g (lw_at lw_m9 232 rfl) rfl
theorem q2260 : (Jvm.Cond.code ({ cls := "CrewPairerModel", name := "item", desc := "(III)I" } : Jvm.MethodName) prog_12_method_47_code (4 : Nat) (Option.some Jvm.ClassFile.FieldType.int)) ∈ lw_all := lw_g (lw_at lw_m9 233 rfl) rfl
theorem q2261 : (Jvm.Cond.methodLink "CrewPairerModel" (186 : Nat) ({ cls := "CrewPairerModel", name := "dutyOf", desc := "(I)I" } : Jvm.MethodName)) ∈ lw_all := lw_g (lw_at lw_m9 234 rfl) rfl
theorem q2262 : (Jvm.Cond.privateMethod ({ cls := "CrewPairerModel", name := "dutyOf", desc := "(I)I" } : Jvm.MethodName)) ∈ lw_tbl := lw_at lw_m9 235 rfl
theorem q2263 : (Jvm.Cond.instanceMethod ({ cls := "CrewPairerModel", name := "dutyOf", desc := "(I)I" } : Jvm.MethodName)) ∈ lw_all := lw_g (lw_at lw_m9 236 rfl) rfl
theorem q2264 : (Jvm.Cond.code ({ cls := "CrewPairerModel", name := "dutyOf", desc := "(I)I" } : Jvm.MethodName) prog_12_method_46_code (4 : Nat) (Option.some Jvm.ClassFile.FieldType.int)) ∈ lw_all := lw_g (lw_at lw_m9 237 rfl) rfl
theorem q2266 : (Jvm.Cond.instanceMethod ({ cls := "CrewPairerModel", name := "dutyCount", desc := "(I)I" } : Jvm.MethodName)) ∈ lw_all := lw_g (lw_at lw_m9 239 rfl) rfl
theorem q2267 : (Jvm.Cond.selects "CrewPairerModel" ({ cls := "CrewPairerModel", name := "dutyCount", desc := "(I)I" } : Jvm.MethodName) ({ cls := "CrewPairerModel", name := "dutyCount", desc := "(I)I" } : Jvm.MethodName)) ∈ lw_all := lw_g (lw_at lw_m10 0 rfl) rfl
theorem q2268 : (Jvm.Cond.code ({ cls := "CrewPairerModel", name := "dutyCount", desc := "(I)I" } : Jvm.MethodName) prog_12_method_48_code (2 : Nat) (Option.some Jvm.ClassFile.FieldType.int)) ∈ lw_all := lw_g (lw_at lw_m10 1 rfl) rfl
theorem q2270 : (Jvm.Cond.instanceMethod ({ cls := "CrewPairerModel", name := "duty", desc := "(III)I" } : Jvm.MethodName)) ∈ lw_all := lw_g (lw_at lw_m10 3 rfl) rfl
theorem q2271 : (Jvm.Cond.selects "CrewPairerModel" ({ cls := "CrewPairerModel", name := "duty", desc := "(III)I" } : Jvm.MethodName) ({ cls := "CrewPairerModel", name := "duty", desc := "(III)I" } : Jvm.MethodName)) ∈ lw_all := lw_g (lw_at lw_m10 4 rfl) rfl
theorem q2272 : (Jvm.Cond.code ({ cls := "CrewPairerModel", name := "duty", desc := "(III)I" } : Jvm.MethodName) prog_12_method_49_code (6 : Nat) (Option.some Jvm.ClassFile.FieldType.int)) ∈ lw_all := lw_g (lw_at lw_m10 5 rfl) rfl
theorem q2274 : (Jvm.Cond.instanceMethod ({ cls := "CrewPairerModel", name := "violationCount", desc := "(I)I" } : Jvm.MethodName)) ∈ lw_all := lw_g (lw_at lw_m10 7 rfl) rfl
theorem q2275 : (Jvm.Cond.selects "CrewPairerModel" ({ cls := "CrewPairerModel", name := "violationCount", desc := "(I)I" } : Jvm.MethodName) ({ cls := "CrewPairerModel", name := "violationCount", desc := "(I)I" } : Jvm.MethodName)) ∈ lw_all := lw_g (lw_at lw_m10 8 rfl) rfl
theorem q2276 : (Jvm.Cond.code ({ cls := "CrewPairerModel", name := "violationCount", desc := "(I)I" } : Jvm.MethodName) prog_12_method_50_code (2 : Nat) (Option.some Jvm.ClassFile.FieldType.int)) ∈ lw_all := lw_g (lw_at lw_m10 9 rfl) rfl
theorem q2277 : (Jvm.Cond.methodLink "CrewPairerModel" (189 : Nat) ({ cls := "CrewPairerModel", name := "violations", desc := "()I" } : Jvm.MethodName)) ∈ lw_all := lw_g (lw_at lw_m10 10 rfl) rfl
theorem q2278 : (Jvm.Cond.privateMethod ({ cls := "CrewPairerModel", name := "violations", desc := "()I" } : Jvm.MethodName)) ∈ lw_tbl := lw_at lw_m10 11 rfl
theorem q2279 : (Jvm.Cond.instanceMethod ({ cls := "CrewPairerModel", name := "violations", desc := "()I" } : Jvm.MethodName)) ∈ lw_all := lw_g (lw_at lw_m10 12 rfl) rfl
theorem q2280 : (Jvm.Cond.code ({ cls := "CrewPairerModel", name := "violations", desc := "()I" } : Jvm.MethodName) prog_12_method_35_code (2 : Nat) (Option.some Jvm.ClassFile.FieldType.int)) ∈ lw_all := lw_g (lw_at lw_m10 13 rfl) rfl
theorem q2282 : (Jvm.Cond.instanceMethod ({ cls := "CrewPairerModel", name := "violation", desc := "(III)I" } : Jvm.MethodName)) ∈ lw_all := lw_g (lw_at lw_m10 15 rfl) rfl
theorem q2283 : (Jvm.Cond.selects "CrewPairerModel" ({ cls := "CrewPairerModel", name := "violation", desc := "(III)I" } : Jvm.MethodName) ({ cls := "CrewPairerModel", name := "violation", desc := "(III)I" } : Jvm.MethodName)) ∈ lw_all := lw_g (lw_at lw_m10 16 rfl) rfl
theorem q2284 : (Jvm.Cond.code ({ cls := "CrewPairerModel", name := "violation", desc := "(III)I" } : Jvm.MethodName) prog_12_method_51_code (5 : Nat) (Option.some Jvm.ClassFile.FieldType.int)) ∈ lw_all := lw_g (lw_at lw_m10 17 rfl) rfl
theorem q2286 : (Jvm.Cond.instanceMethod ({ cls := "CrewPairerModel", name := "minutes", desc := "(I)I" } : Jvm.MethodName)) ∈ lw_all := lw_g (lw_at lw_m10 19 rfl) rfl
theorem q2287 : (Jvm.Cond.selects "CrewPairerModel" ({ cls := "CrewPairerModel", name := "minutes", desc := "(I)I" } : Jvm.MethodName) ({ cls := "CrewPairerModel", name := "minutes", desc := "(I)I" } : Jvm.MethodName)) ∈ lw_all := lw_g (lw_at lw_m10 20 rfl) rfl
theorem q2288 : (Jvm.Cond.code ({ cls := "CrewPairerModel", name := "minutes", desc := "(I)I" } : Jvm.MethodName) prog_12_method_53_code (2 : Nat) (Option.some Jvm.ClassFile.FieldType.int)) ∈ lw_all := lw_g (lw_at lw_m10 21 rfl) rfl
theorem q2289 : (Jvm.Cond.methodLink "CrewPairerModel" (193 : Nat) ({ cls := "CrewPairerModel", name := "minutesOf", desc := "(I)I" } : Jvm.MethodName)) ∈ lw_all := lw_g (lw_at lw_m10 22 rfl) rfl
theorem q2290 : (Jvm.Cond.privateMethod ({ cls := "CrewPairerModel", name := "minutesOf", desc := "(I)I" } : Jvm.MethodName)) ∈ lw_tbl := lw_at lw_m10 23 rfl
theorem q2291 : (Jvm.Cond.instanceMethod ({ cls := "CrewPairerModel", name := "minutesOf", desc := "(I)I" } : Jvm.MethodName)) ∈ lw_all := lw_g (lw_at lw_m10 24 rfl) rfl
theorem q2292 : (Jvm.Cond.code ({ cls := "CrewPairerModel", name := "minutesOf", desc := "(I)I" } : Jvm.MethodName) prog_12_method_52_code (2 : Nat) (Option.some Jvm.ClassFile.FieldType.int)) ∈ lw_all := lw_g (lw_at lw_m10 25 rfl) rfl
theorem q2294 : (Jvm.Cond.instanceMethod ({ cls := "CrewPairerModel", name := "within", desc := "(III)I" } : Jvm.MethodName)) ∈ lw_all := lw_g (lw_at lw_m10 27 rfl) rfl
theorem q2295 : (Jvm.Cond.selects "CrewPairerModel" ({ cls := "CrewPairerModel", name := "within", desc := "(III)I" } : Jvm.MethodName) ({ cls := "CrewPairerModel", name := "within", desc := "(III)I" } : Jvm.MethodName)) ∈ lw_all := lw_g (lw_at lw_m10 28 rfl) rfl
theorem q2296 : (Jvm.Cond.code ({ cls := "CrewPairerModel", name := "within", desc := "(III)I" } : Jvm.MethodName) prog_12_method_54_code (4 : Nat) (Option.some Jvm.ClassFile.FieldType.int)) ∈ lw_all := lw_g (lw_at lw_m10 29 rfl) rfl
theorem q2298 : (Jvm.Cond.instanceMethod ({ cls := "CrewPairerModel", name := "home", desc := "(I)I" } : Jvm.MethodName)) ∈ lw_all := lw_g (lw_at lw_m10 31 rfl) rfl
theorem q2299 : (Jvm.Cond.selects "CrewPairerModel" ({ cls := "CrewPairerModel", name := "home", desc := "(I)I" } : Jvm.MethodName) ({ cls := "CrewPairerModel", name := "home", desc := "(I)I" } : Jvm.MethodName)) ∈ lw_all := lw_g (lw_at lw_m10 32 rfl) rfl
theorem q2300 : (Jvm.Cond.code ({ cls := "CrewPairerModel", name := "home", desc := "(I)I" } : Jvm.MethodName) prog_12_method_56_code (2 : Nat) (Option.some Jvm.ClassFile.FieldType.int)) ∈ lw_all := lw_g (lw_at lw_m10 33 rfl) rfl
theorem q2301 : (Jvm.Cond.methodLink "CrewPairerModel" (196 : Nat) ({ cls := "CrewPairerModel", name := "isHome", desc := "()Z" } : Jvm.MethodName)) ∈ lw_all := lw_g (lw_at lw_m10 34 rfl) rfl
theorem q2302 : (Jvm.Cond.privateMethod ({ cls := "CrewPairerModel", name := "isHome", desc := "()Z" } : Jvm.MethodName)) ∈ lw_tbl := lw_at lw_m10 35 rfl
theorem q2303 : (Jvm.Cond.instanceMethod ({ cls := "CrewPairerModel", name := "isHome", desc := "()Z" } : Jvm.MethodName)) ∈ lw_all := lw_g (lw_at lw_m10 36 rfl) rfl
theorem q2304 : (Jvm.Cond.code ({ cls := "CrewPairerModel", name := "isHome", desc := "()Z" } : Jvm.MethodName) prog_12_method_55_code (1 : Nat) (Option.some Jvm.ClassFile.FieldType.boolean)) ∈ lw_all := lw_g (lw_at lw_m10 37 rfl) rfl
theorem q2306 : (Jvm.Cond.instanceMethod ({ cls := "CrewPairerModel", name := "pairings", desc := "(I)I" } : Jvm.MethodName)) ∈ lw_all := lw_g (lw_at lw_m10 39 rfl) rfl
theorem q2307 : (Jvm.Cond.selects "CrewPairerModel" ({ cls := "CrewPairerModel", name := "pairings", desc := "(I)I" } : Jvm.MethodName) ({ cls := "CrewPairerModel", name := "pairings", desc := "(I)I" } : Jvm.MethodName)) ∈ lw_all := lw_g (lw_at lw_m10 40 rfl) rfl
theorem q2308 : (Jvm.Cond.code ({ cls := "CrewPairerModel", name := "pairings", desc := "(I)I" } : Jvm.MethodName) prog_12_method_57_code (4 : Nat) (Option.some Jvm.ClassFile.FieldType.int)) ∈ lw_all := lw_g (lw_at lw_m10 41 rfl) rfl
theorem q2310 : (Jvm.Cond.instanceMethod ({ cls := "CrewPairerModel", name := "cost", desc := "(II)I" } : Jvm.MethodName)) ∈ lw_all := lw_g (lw_at lw_m10 43 rfl) rfl
theorem q2311 : (Jvm.Cond.selects "CrewPairerModel" ({ cls := "CrewPairerModel", name := "cost", desc := "(II)I" } : Jvm.MethodName) ({ cls := "CrewPairerModel", name := "cost", desc := "(II)I" } : Jvm.MethodName)) ∈ lw_all := lw_g (lw_at lw_m10 44 rfl) rfl
theorem q2312 : (Jvm.Cond.code ({ cls := "CrewPairerModel", name := "cost", desc := "(II)I" } : Jvm.MethodName) prog_12_method_59_code (5 : Nat) (Option.some Jvm.ClassFile.FieldType.int)) ∈ lw_all := lw_g (lw_at lw_m10 45 rfl) rfl
theorem q2313 : (Jvm.Cond.methodLink "CrewPairerModel" (200 : Nat) ({ cls := "CrewPairerModel", name := "costOf", desc := "(II)I" } : Jvm.MethodName)) ∈ lw_all := lw_g (lw_at lw_m10 46 rfl) rfl
theorem q2314 : (Jvm.Cond.privateMethod ({ cls := "CrewPairerModel", name := "costOf", desc := "(II)I" } : Jvm.MethodName)) ∈ lw_tbl := lw_at lw_m10 47 rfl
theorem q2315 : (Jvm.Cond.instanceMethod ({ cls := "CrewPairerModel", name := "costOf", desc := "(II)I" } : Jvm.MethodName)) ∈ lw_all := lw_g (lw_at lw_m10 48 rfl) rfl
theorem q2316 : (Jvm.Cond.code ({ cls := "CrewPairerModel", name := "costOf", desc := "(II)I" } : Jvm.MethodName) prog_12_method_58_code (6 : Nat) (Option.some Jvm.ClassFile.FieldType.int)) ∈ lw_all := lw_g (lw_at lw_m10 49 rfl) rfl
theorem q2318 : (Jvm.Cond.instanceMethod ({ cls := "CrewPairerModel", name := "openCount", desc := "()I" } : Jvm.MethodName)) ∈ lw_all := lw_g (lw_at lw_m10 51 rfl) rfl
theorem q2319 : (Jvm.Cond.selects "CrewPairerModel" ({ cls := "CrewPairerModel", name := "openCount", desc := "()I" } : Jvm.MethodName) ({ cls := "CrewPairerModel", name := "openCount", desc := "()I" } : Jvm.MethodName)) ∈ lw_all := lw_g (lw_at lw_m10 52 rfl) rfl
theorem q2320 : (Jvm.Cond.code ({ cls := "CrewPairerModel", name := "openCount", desc := "()I" } : Jvm.MethodName) prog_12_method_62_code (1 : Nat) (Option.some Jvm.ClassFile.FieldType.int)) ∈ lw_all := lw_g (lw_at lw_m10 53 rfl) rfl
theorem q2321 : (Jvm.Cond.methodLink "CrewPairerModel" (209 : Nat) ({ cls := "CrewPairerModel", name := "findOpen", desc := "()V" } : Jvm.MethodName)) ∈ lw_all := lw_g (lw_at lw_m10 54 rfl) rfl
theorem q2322 : (Jvm.Cond.privateMethod ({ cls := "CrewPairerModel", name := "findOpen", desc := "()V" } : Jvm.MethodName)) ∈ lw_tbl := lw_at lw_m10 55 rfl
theorem q2323 : (Jvm.Cond.instanceMethod ({ cls := "CrewPairerModel", name := "findOpen", desc := "()V" } : Jvm.MethodName)) ∈ lw_all := lw_g (lw_at lw_m10 56 rfl) rfl
theorem q2324 : (Jvm.Cond.code ({ cls := "CrewPairerModel", name := "findOpen", desc := "()V" } : Jvm.MethodName) prog_12_method_61_code (3 : Nat) (Option.none : Option Jvm.ClassFile.FieldType)) ∈ lw_all := lw_g (lw_at lw_m10 57 rfl) rfl
theorem q2325 : (Jvm.Cond.methodLink "CrewPairerModel" (206 : Nat) ({ cls := "CrewPairerModel", name := "isOpen", desc := "(I)Z" } : Jvm.MethodName)) ∈ lw_all := lw_g (lw_at lw_m10 58 rfl) rfl
theorem q2326 : (Jvm.Cond.privateMethod ({ cls := "CrewPairerModel", name := "isOpen", desc := "(I)Z" } : Jvm.MethodName)) ∈ lw_tbl := lw_at lw_m10 59 rfl
theorem q2327 : (Jvm.Cond.instanceMethod ({ cls := "CrewPairerModel", name := "isOpen", desc := "(I)Z" } : Jvm.MethodName)) ∈ lw_all := lw_g (lw_at lw_m10 60 rfl) rfl
theorem q2328 : (Jvm.Cond.code ({ cls := "CrewPairerModel", name := "isOpen", desc := "(I)Z" } : Jvm.MethodName) prog_12_method_60_code (2 : Nat) (Option.some Jvm.ClassFile.FieldType.boolean)) ∈ lw_all := lw_g (lw_at lw_m10 61 rfl) rfl
theorem q2330 : (Jvm.Cond.instanceMethod ({ cls := "CrewPairerModel", name := "open", desc := "(I)I" } : Jvm.MethodName)) ∈ lw_all := lw_g (lw_at lw_m10 63 rfl) rfl
theorem q2331 : (Jvm.Cond.selects "CrewPairerModel" ({ cls := "CrewPairerModel", name := "open", desc := "(I)I" } : Jvm.MethodName) ({ cls := "CrewPairerModel", name := "open", desc := "(I)I" } : Jvm.MethodName)) ∈ lw_all := lw_g (lw_at lw_m10 64 rfl) rfl
theorem q2332 : (Jvm.Cond.code ({ cls := "CrewPairerModel", name := "open", desc := "(I)I" } : Jvm.MethodName) prog_12_method_63_code (2 : Nat) (Option.some Jvm.ClassFile.FieldType.int)) ∈ lw_all := lw_g (lw_at lw_m10 65 rfl) rfl
theorem q2334 : (Jvm.Cond.instanceMethod ({ cls := "CrewPairerModel", name := "delay", desc := "(II)I" } : Jvm.MethodName)) ∈ lw_all := lw_g (lw_at lw_m10 67 rfl) rfl
theorem q2335 : (Jvm.Cond.selects "CrewPairerModel" ({ cls := "CrewPairerModel", name := "delay", desc := "(II)I" } : Jvm.MethodName) ({ cls := "CrewPairerModel", name := "delay", desc := "(II)I" } : Jvm.MethodName)) ∈ lw_all := lw_g (lw_at lw_m10 68 rfl) rfl
theorem q2336 : (Jvm.Cond.code ({ cls := "CrewPairerModel", name := "delay", desc := "(II)I" } : Jvm.MethodName) prog_12_method_65_code (6 : Nat) (Option.some Jvm.ClassFile.FieldType.int)) ∈ lw_all := lw_g (lw_at lw_m10 69 rfl) rfl
theorem q2337 : (Jvm.Cond.methodLink "CrewPairerModel" (212 : Nat) ({ cls := "CrewPairerModel", name := "reorder", desc := "(I)V" } : Jvm.MethodName)) ∈ lw_all := lw_g (lw_at lw_m10 70 rfl) rfl
theorem q2338 : (Jvm.Cond.privateMethod ({ cls := "CrewPairerModel", name := "reorder", desc := "(I)V" } : Jvm.MethodName)) ∈ lw_tbl := lw_at lw_m10 71 rfl
theorem q2339 : (Jvm.Cond.instanceMethod ({ cls := "CrewPairerModel", name := "reorder", desc := "(I)V" } : Jvm.MethodName)) ∈ lw_all := lw_g (lw_at lw_m10 72 rfl) rfl
theorem q2340 : (Jvm.Cond.code ({ cls := "CrewPairerModel", name := "reorder", desc := "(I)V" } : Jvm.MethodName) prog_12_method_64_code (6 : Nat) (Option.none : Option Jvm.ClassFile.FieldType)) ∈ lw_all := lw_g (lw_at lw_m10 73 rfl) rfl
theorem q2342 : (Jvm.Cond.instanceMethod ({ cls := "CrewPairerModel", name := "cancel", desc := "(I)I" } : Jvm.MethodName)) ∈ lw_all := lw_g (lw_at lw_m10 75 rfl) rfl
theorem q2343 : (Jvm.Cond.selects "CrewPairerModel" ({ cls := "CrewPairerModel", name := "cancel", desc := "(I)I" } : Jvm.MethodName) ({ cls := "CrewPairerModel", name := "cancel", desc := "(I)I" } : Jvm.MethodName)) ∈ lw_all := lw_g (lw_at lw_m10 76 rfl) rfl
theorem q2344 : (Jvm.Cond.code ({ cls := "CrewPairerModel", name := "cancel", desc := "(I)I" } : Jvm.MethodName) prog_12_method_66_code (5 : Nat) (Option.some Jvm.ClassFile.FieldType.int)) ∈ lw_all := lw_g (lw_at lw_m10 77 rfl) rfl
theorem q2346 : (Jvm.Cond.instanceMethod ({ cls := "CrewPairerModel", name := "setReserve", desc := "(III)I" } : Jvm.MethodName)) ∈ lw_all := lw_g (lw_at lw_m10 79 rfl) rfl
theorem q2347 : (Jvm.Cond.selects "CrewPairerModel" ({ cls := "CrewPairerModel", name := "setReserve", desc := "(III)I" } : Jvm.MethodName) ({ cls := "CrewPairerModel", name := "setReserve", desc := "(III)I" } : Jvm.MethodName)) ∈ lw_all := lw_g (lw_at lw_m10 80 rfl) rfl
theorem q2348 : (Jvm.Cond.code ({ cls := "CrewPairerModel", name := "setReserve", desc := "(III)I" } : Jvm.MethodName) prog_12_method_68_code (5 : Nat) (Option.some Jvm.ClassFile.FieldType.int)) ∈ lw_all := lw_g (lw_at lw_m10 81 rfl) rfl
theorem q2349 : (Jvm.Cond.methodLink "CrewPairerModel" (215 : Nat) ({ cls := "CrewPairerModel", name := "isReserve", desc := "(I)Z" } : Jvm.MethodName)) ∈ lw_all := lw_g (lw_at lw_m10 82 rfl) rfl
theorem q2350 : (Jvm.Cond.privateMethod ({ cls := "CrewPairerModel", name := "isReserve", desc := "(I)Z" } : Jvm.MethodName)) ∈ lw_tbl := lw_at lw_m10 83 rfl
theorem q2351 : (Jvm.Cond.instanceMethod ({ cls := "CrewPairerModel", name := "isReserve", desc := "(I)Z" } : Jvm.MethodName)) ∈ lw_all := lw_g (lw_at lw_m10 84 rfl) rfl
theorem q2352 : (Jvm.Cond.code ({ cls := "CrewPairerModel", name := "isReserve", desc := "(I)Z" } : Jvm.MethodName) prog_12_method_67_code (2 : Nat) (Option.some Jvm.ClassFile.FieldType.boolean)) ∈ lw_all := lw_g (lw_at lw_m10 85 rfl) rfl
theorem q2354 : (Jvm.Cond.instanceMethod ({ cls := "CrewPairerModel", name := "reserve", desc := "(II)I" } : Jvm.MethodName)) ∈ lw_all := lw_g (lw_at lw_m10 87 rfl) rfl
theorem q2355 : (Jvm.Cond.selects "CrewPairerModel" ({ cls := "CrewPairerModel", name := "reserve", desc := "(II)I" } : Jvm.MethodName) ({ cls := "CrewPairerModel", name := "reserve", desc := "(II)I" } : Jvm.MethodName)) ∈ lw_all := lw_g (lw_at lw_m10 88 rfl) rfl
theorem q2356 : (Jvm.Cond.code ({ cls := "CrewPairerModel", name := "reserve", desc := "(II)I" } : Jvm.MethodName) prog_12_method_69_code (3 : Nat) (Option.some Jvm.ClassFile.FieldType.int)) ∈ lw_all := lw_g (lw_at lw_m10 89 rfl) rfl
theorem q2358 : (Jvm.Cond.instanceMethod ({ cls := "CrewPairerModel", name := "called", desc := "(I)I" } : Jvm.MethodName)) ∈ lw_all := lw_g (lw_at lw_m10 91 rfl) rfl
theorem q2359 : (Jvm.Cond.selects "CrewPairerModel" ({ cls := "CrewPairerModel", name := "called", desc := "(I)I" } : Jvm.MethodName) ({ cls := "CrewPairerModel", name := "called", desc := "(I)I" } : Jvm.MethodName)) ∈ lw_all := lw_g (lw_at lw_m10 92 rfl) rfl
theorem q2360 : (Jvm.Cond.code ({ cls := "CrewPairerModel", name := "called", desc := "(I)I" } : Jvm.MethodName) prog_12_method_71_code (2 : Nat) (Option.some Jvm.ClassFile.FieldType.int)) ∈ lw_all := lw_g (lw_at lw_m10 93 rfl) rfl
theorem q2361 : (Jvm.Cond.methodLink "CrewPairerModel" (218 : Nat) ({ cls := "CrewPairerModel", name := "calledFor", desc := "(I)I" } : Jvm.MethodName)) ∈ lw_all := lw_g (lw_at lw_m10 94 rfl) rfl
theorem q2362 : (Jvm.Cond.privateMethod ({ cls := "CrewPairerModel", name := "calledFor", desc := "(I)I" } : Jvm.MethodName)) ∈ lw_tbl := lw_at lw_m10 95 rfl
theorem q2363 : (Jvm.Cond.instanceMethod ({ cls := "CrewPairerModel", name := "calledFor", desc := "(I)I" } : Jvm.MethodName)) ∈ lw_all := lw_g (lw_at lw_m10 96 rfl) rfl
theorem q2364 : (Jvm.Cond.code ({ cls := "CrewPairerModel", name := "calledFor", desc := "(I)I" } : Jvm.MethodName) prog_12_method_70_code (8 : Nat) (Option.some Jvm.ClassFile.FieldType.int)) ∈ lw_all := lw_g (lw_at lw_m10 97 rfl) rfl
theorem q2366 : (Jvm.Cond.instanceMethod ({ cls := "CrewPairerModel", name := "pair", desc := "()I" } : Jvm.MethodName)) ∈ lw_all := lw_g (lw_at lw_m10 99 rfl) rfl
theorem q2367 : (Jvm.Cond.selects "CrewPairerModel" ({ cls := "CrewPairerModel", name := "pair", desc := "()I" } : Jvm.MethodName) ({ cls := "CrewPairerModel", name := "pair", desc := "()I" } : Jvm.MethodName)) ∈ lw_all := lw_g (lw_at lw_m10 100 rfl) rfl
theorem q2368 : (Jvm.Cond.code ({ cls := "CrewPairerModel", name := "pair", desc := "()I" } : Jvm.MethodName) prog_12_method_75_code (5 : Nat) (Option.some Jvm.ClassFile.FieldType.int)) ∈ lw_all := lw_g (lw_at lw_m10 101 rfl) rfl
theorem q2369 : (Jvm.Cond.methodLink "CrewPairerModel" (240 : Nat) ({ cls := "CrewPairerModel", name := "findOffer", desc := "(I)V" } : Jvm.MethodName)) ∈ lw_all := lw_g (lw_at lw_m10 102 rfl) rfl
theorem q2370 : (Jvm.Cond.privateMethod ({ cls := "CrewPairerModel", name := "findOffer", desc := "(I)V" } : Jvm.MethodName)) ∈ lw_tbl := lw_at lw_m10 103 rfl
theorem q2371 : (Jvm.Cond.instanceMethod ({ cls := "CrewPairerModel", name := "findOffer", desc := "(I)V" } : Jvm.MethodName)) ∈ lw_all := lw_g (lw_at lw_m10 104 rfl) rfl
theorem q2372 : (Jvm.Cond.code ({ cls := "CrewPairerModel", name := "findOffer", desc := "(I)V" } : Jvm.MethodName) prog_12_method_74_code (4 : Nat) (Option.none : Option Jvm.ClassFile.FieldType)) ∈ lw_all := lw_g (lw_at lw_m10 105 rfl) rfl
theorem q2373 : (Jvm.Cond.methodLink "CrewPairerModel" (233 : Nat) ({ cls := "CrewPairerModel", name := "consider", desc := "(III)V" } : Jvm.MethodName)) ∈ lw_all := lw_g (lw_at lw_m10 106 rfl) rfl
theorem q2374 : (Jvm.Cond.privateMethod ({ cls := "CrewPairerModel", name := "consider", desc := "(III)V" } : Jvm.MethodName)) ∈ lw_tbl := lw_at lw_m10 107 rfl
theorem q2375 : (Jvm.Cond.instanceMethod ({ cls := "CrewPairerModel", name := "consider", desc := "(III)V" } : Jvm.MethodName)) ∈ lw_all := lw_g (lw_at lw_m10 108 rfl) rfl
theorem q2376 : (Jvm.Cond.code ({ cls := "CrewPairerModel", name := "consider", desc := "(III)V" } : Jvm.MethodName) prog_12_method_72_code (6 : Nat) (Option.none : Option Jvm.ClassFile.FieldType)) ∈ lw_all := lw_g (lw_at lw_m10 109 rfl) rfl
theorem q2377 : (Jvm.Cond.methodLink "CrewPairerModel" (237 : Nat) ({ cls := "CrewPairerModel", name := "isWay", desc := "(III)Z" } : Jvm.MethodName)) ∈ lw_all := lw_g (lw_at lw_m10 110 rfl) rfl
theorem q2378 : (Jvm.Cond.privateMethod ({ cls := "CrewPairerModel", name := "isWay", desc := "(III)Z" } : Jvm.MethodName)) ∈ lw_tbl := lw_at lw_m10 111 rfl
theorem q2379 : (Jvm.Cond.instanceMethod ({ cls := "CrewPairerModel", name := "isWay", desc := "(III)Z" } : Jvm.MethodName)) ∈ lw_all := lw_g (lw_at lw_m10 112 rfl) rfl
theorem q2380 : (Jvm.Cond.code ({ cls := "CrewPairerModel", name := "isWay", desc := "(III)Z" } : Jvm.MethodName) prog_12_method_73_code (5 : Nat) (Option.some Jvm.ClassFile.FieldType.boolean)) ∈ lw_all := lw_g (lw_at lw_m10 113 rfl) rfl
theorem q2382 : (Jvm.Cond.instanceMethod ({ cls := "CrewPairerModel", name := "offer", desc := "(II)I" } : Jvm.MethodName)) ∈ lw_all := lw_g (lw_at lw_m10 115 rfl) rfl
theorem q2383 : (Jvm.Cond.selects "CrewPairerModel" ({ cls := "CrewPairerModel", name := "offer", desc := "(II)I" } : Jvm.MethodName) ({ cls := "CrewPairerModel", name := "offer", desc := "(II)I" } : Jvm.MethodName)) ∈ lw_all := lw_g (lw_at lw_m10 116 rfl) rfl
theorem q2384 : (Jvm.Cond.code ({ cls := "CrewPairerModel", name := "offer", desc := "(II)I" } : Jvm.MethodName) prog_12_method_76_code (3 : Nat) (Option.some Jvm.ClassFile.FieldType.int)) ∈ lw_all := lw_g (lw_at lw_m10 117 rfl) rfl
theorem q2386 : (Jvm.Cond.instanceMethod ({ cls := "CrewPairerModel", name := "repair", desc := "()I" } : Jvm.MethodName)) ∈ lw_all := lw_g (lw_at lw_m10 119 rfl) rfl
theorem q2387 : (Jvm.Cond.selects "CrewPairerModel" ({ cls := "CrewPairerModel", name := "repair", desc := "()I" } : Jvm.MethodName) ({ cls := "CrewPairerModel", name := "repair", desc := "()I" } : Jvm.MethodName)) ∈ lw_all := lw_g (lw_at lw_m10 120 rfl) rfl
theorem q2388 : (Jvm.Cond.code ({ cls := "CrewPairerModel", name := "repair", desc := "()I" } : Jvm.MethodName) prog_12_method_77_code (4 : Nat) (Option.some Jvm.ClassFile.FieldType.int)) ∈ lw_all := lw_g (lw_at lw_m10 121 rfl) rfl
theorem q2389 : (Jvm.Cond.methodLink "CrewPairerModel" (246 : Nat) ({ cls := "CrewPairerModel", name := "callFor", desc := "(II)V" } : Jvm.MethodName)) ∈ lw_all := lw_g (lw_at lw_m10 122 rfl) rfl
theorem q2390 : (Jvm.Cond.privateMethod ({ cls := "CrewPairerModel", name := "callFor", desc := "(II)V" } : Jvm.MethodName)) ∈ lw_tbl := lw_at lw_m10 123 rfl
theorem q2391 : (Jvm.Cond.instanceMethod ({ cls := "CrewPairerModel", name := "callFor", desc := "(II)V" } : Jvm.MethodName)) ∈ lw_all := lw_g (lw_at lw_m10 124 rfl) rfl
theorem q2392 : (Jvm.Cond.code ({ cls := "CrewPairerModel", name := "callFor", desc := "(II)V" } : Jvm.MethodName) prog_12_method_78_code (5 : Nat) (Option.none : Option Jvm.ClassFile.FieldType)) ∈ lw_all := lw_g (lw_at lw_m10 125 rfl) rfl
theorem q2394 : (Jvm.Cond.instanceMethod ({ cls := "CrewPairerModel", name := "repaired", desc := "(II)I" } : Jvm.MethodName)) ∈ lw_all := lw_g (lw_at lw_m10 127 rfl) rfl
theorem q2395 : (Jvm.Cond.selects "CrewPairerModel" ({ cls := "CrewPairerModel", name := "repaired", desc := "(II)I" } : Jvm.MethodName) ({ cls := "CrewPairerModel", name := "repaired", desc := "(II)I" } : Jvm.MethodName)) ∈ lw_all := lw_g (lw_at lw_m10 128 rfl) rfl
theorem q2396 : (Jvm.Cond.code ({ cls := "CrewPairerModel", name := "repaired", desc := "(II)I" } : Jvm.MethodName) prog_12_method_79_code (3 : Nat) (Option.some Jvm.ClassFile.FieldType.int)) ∈ lw_all := lw_g (lw_at lw_m10 129 rfl) rfl
theorem q2398 : (Jvm.Cond.instanceMethod ({ cls := "CrewPairerModel", name := "bestMinutes", desc := "(I)I" } : Jvm.MethodName)) ∈ lw_all := lw_g (lw_at lw_m10 131 rfl) rfl
theorem q2399 : (Jvm.Cond.selects "CrewPairerModel" ({ cls := "CrewPairerModel", name := "bestMinutes", desc := "(I)I" } : Jvm.MethodName) ({ cls := "CrewPairerModel", name := "bestMinutes", desc := "(I)I" } : Jvm.MethodName)) ∈ lw_all := lw_g (lw_at lw_m10 132 rfl) rfl
theorem q2400 : (Jvm.Cond.code ({ cls := "CrewPairerModel", name := "bestMinutes", desc := "(I)I" } : Jvm.MethodName) prog_12_method_82_code (2 : Nat) (Option.some Jvm.ClassFile.FieldType.int)) ∈ lw_all := lw_g (lw_at lw_m10 133 rfl) rfl
theorem q2401 : (Jvm.Cond.methodLink "CrewPairerModel" (259 : Nat) ({ cls := "CrewPairerModel", name := "findBest", desc := "(I)V" } : Jvm.MethodName)) ∈ lw_all := lw_g (lw_at lw_m10 134 rfl) rfl
theorem q2402 : (Jvm.Cond.privateMethod ({ cls := "CrewPairerModel", name := "findBest", desc := "(I)V" } : Jvm.MethodName)) ∈ lw_tbl := lw_at lw_m10 135 rfl
theorem q2403 : (Jvm.Cond.instanceMethod ({ cls := "CrewPairerModel", name := "findBest", desc := "(I)V" } : Jvm.MethodName)) ∈ lw_all := lw_g (lw_at lw_m10 136 rfl) rfl
theorem q2404 : (Jvm.Cond.code ({ cls := "CrewPairerModel", name := "findBest", desc := "(I)V" } : Jvm.MethodName) prog_12_method_81_code (2 : Nat) (Option.none : Option Jvm.ClassFile.FieldType)) ∈ lw_all := lw_g (lw_at lw_m10 137 rfl) rfl
theorem q2405 : (Jvm.Cond.methodLink "CrewPairerModel" (256 : Nat) ({ cls := "CrewPairerModel", name := "search", desc := "(III)V" } : Jvm.MethodName)) ∈ lw_all := lw_g (lw_at lw_m10 138 rfl) rfl
theorem q2406 : (Jvm.Cond.privateMethod ({ cls := "CrewPairerModel", name := "search", desc := "(III)V" } : Jvm.MethodName)) ∈ lw_tbl := lw_at lw_m10 139 rfl
theorem q2407 : (Jvm.Cond.instanceMethod ({ cls := "CrewPairerModel", name := "search", desc := "(III)V" } : Jvm.MethodName)) ∈ lw_all := lw_g (lw_at lw_m10 140 rfl) rfl
theorem q2408 : (Jvm.Cond.code ({ cls := "CrewPairerModel", name := "search", desc := "(III)V" } : Jvm.MethodName) prog_12_method_80_code (6 : Nat) (Option.none : Option Jvm.ClassFile.FieldType)) ∈ lw_all := lw_g (lw_at lw_m10 141 rfl) rfl
theorem q2410 : (Jvm.Cond.instanceMethod ({ cls := "CrewPairerModel", name := "bestLeg", desc := "(II)I" } : Jvm.MethodName)) ∈ lw_all := lw_g (lw_at lw_m10 143 rfl) rfl
theorem q2411 : (Jvm.Cond.selects "CrewPairerModel" ({ cls := "CrewPairerModel", name := "bestLeg", desc := "(II)I" } : Jvm.MethodName) ({ cls := "CrewPairerModel", name := "bestLeg", desc := "(II)I" } : Jvm.MethodName)) ∈ lw_all := lw_g (lw_at lw_m10 144 rfl) rfl
theorem q2412 : (Jvm.Cond.code ({ cls := "CrewPairerModel", name := "bestLeg", desc := "(II)I" } : Jvm.MethodName) prog_12_method_83_code (3 : Nat) (Option.some Jvm.ClassFile.FieldType.int)) ∈ lw_all := lw_g (lw_at lw_m10 145 rfl) rfl
theorem q2414 : (Jvm.Cond.instanceMethod ({ cls := "CrewPairerModel", name := "takeBest", desc := "(I)I" } : Jvm.MethodName)) ∈ lw_all := lw_g (lw_at lw_m10 147 rfl) rfl
theorem q2415 : (Jvm.Cond.selects "CrewPairerModel" ({ cls := "CrewPairerModel", name := "takeBest", desc := "(I)I" } : Jvm.MethodName) ({ cls := "CrewPairerModel", name := "takeBest", desc := "(I)I" } : Jvm.MethodName)) ∈ lw_all := lw_g (lw_at lw_m10 148 rfl) rfl
theorem q2416 : (Jvm.Cond.code ({ cls := "CrewPairerModel", name := "takeBest", desc := "(I)I" } : Jvm.MethodName) prog_12_method_84_code (4 : Nat) (Option.some Jvm.ClassFile.FieldType.int)) ∈ lw_all := lw_g (lw_at lw_m10 149 rfl) rfl
theorem q2418 : (Jvm.Cond.instanceMethod ({ cls := "CrewPairerModel", name := "letter", desc := "(II)I" } : Jvm.MethodName)) ∈ lw_all := lw_g (lw_at lw_m10 151 rfl) rfl
theorem q2419 : (Jvm.Cond.selects "CrewPairerModel" ({ cls := "CrewPairerModel", name := "letter", desc := "(II)I" } : Jvm.MethodName) ({ cls := "CrewPairerModel", name := "letter", desc := "(II)I" } : Jvm.MethodName)) ∈ lw_all := lw_g (lw_at lw_m10 152 rfl) rfl
theorem q2420 : (Jvm.Cond.code ({ cls := "CrewPairerModel", name := "letter", desc := "(II)I" } : Jvm.MethodName) prog_12_method_89_code (4 : Nat) (Option.some Jvm.ClassFile.FieldType.int)) ∈ lw_all := lw_g (lw_at lw_m10 153 rfl) rfl
theorem q2421 : (Jvm.Cond.methodLink "CrewPairerModel" (287 : Nat) ({ cls := "CrewPairerModel", name := "writeItem", desc := "(I)V" } : Jvm.MethodName)) ∈ lw_all := lw_g (lw_at lw_m10 154 rfl) rfl
theorem q2422 : (Jvm.Cond.privateMethod ({ cls := "CrewPairerModel", name := "writeItem", desc := "(I)V" } : Jvm.MethodName)) ∈ lw_tbl := lw_at lw_m10 155 rfl
theorem q2423 : (Jvm.Cond.instanceMethod ({ cls := "CrewPairerModel", name := "writeItem", desc := "(I)V" } : Jvm.MethodName)) ∈ lw_all := lw_g (lw_at lw_m10 156 rfl) rfl
theorem q2424 : (Jvm.Cond.code ({ cls := "CrewPairerModel", name := "writeItem", desc := "(I)V" } : Jvm.MethodName) prog_12_method_88_code (5 : Nat) (Option.none : Option Jvm.ClassFile.FieldType)) ∈ lw_all := lw_g (lw_at lw_m10 157 rfl) rfl
theorem q2425 : (Jvm.Cond.methodLink "CrewPairerModel" (265 : Nat) ({ cls := "CrewPairerModel", name := "write", desc := "(I)V" } : Jvm.MethodName)) ∈ lw_all := lw_g (lw_at lw_m10 158 rfl) rfl
theorem q2426 : (Jvm.Cond.privateMethod ({ cls := "CrewPairerModel", name := "write", desc := "(I)V" } : Jvm.MethodName)) ∈ lw_tbl := lw_at lw_m10 159 rfl
theorem q2427 : (Jvm.Cond.instanceMethod ({ cls := "CrewPairerModel", name := "write", desc := "(I)V" } : Jvm.MethodName)) ∈ lw_all := lw_g (lw_at lw_m10 160 rfl) rfl
theorem q2428 : (Jvm.Cond.code ({ cls := "CrewPairerModel", name := "write", desc := "(I)V" } : Jvm.MethodName) prog_12_method_85_code (2 : Nat) (Option.none : Option Jvm.ClassFile.FieldType)) ∈ lw_all := lw_g (lw_at lw_m10 161 rfl) rfl
theorem q2429 : (Jvm.Cond.methodLink "CrewPairerModel" (271 : Nat) ({ cls := "CrewPairerModel", name := "writeTime", desc := "(I)V" } : Jvm.MethodName)) ∈ lw_all := lw_g (lw_at lw_m10 162 rfl) rfl
theorem q2430 : (Jvm.Cond.privateMethod ({ cls := "CrewPairerModel", name := "writeTime", desc := "(I)V" } : Jvm.MethodName)) ∈ lw_tbl := lw_at lw_m10 163 rfl
theorem q2431 : (Jvm.Cond.instanceMethod ({ cls := "CrewPairerModel", name := "writeTime", desc := "(I)V" } : Jvm.MethodName)) ∈ lw_all := lw_g (lw_at lw_m10 164 rfl) rfl
theorem q2432 : (Jvm.Cond.code ({ cls := "CrewPairerModel", name := "writeTime", desc := "(I)V" } : Jvm.MethodName) prog_12_method_87_code (2 : Nat) (Option.none : Option Jvm.ClassFile.FieldType)) ∈ lw_all := lw_g (lw_at lw_m10 165 rfl) rfl
theorem q2433 : (Jvm.Cond.methodLink "CrewPairerModel" (268 : Nat) ({ cls := "CrewPairerModel", name := "writeTwo", desc := "(I)V" } : Jvm.MethodName)) ∈ lw_all := lw_g (lw_at lw_m10 166 rfl) rfl
theorem q2434 : (Jvm.Cond.privateMethod ({ cls := "CrewPairerModel", name := "writeTwo", desc := "(I)V" } : Jvm.MethodName)) ∈ lw_tbl := lw_at lw_m10 167 rfl
theorem q2435 : (Jvm.Cond.instanceMethod ({ cls := "CrewPairerModel", name := "writeTwo", desc := "(I)V" } : Jvm.MethodName)) ∈ lw_all := lw_g (lw_at lw_m10 168 rfl) rfl
theorem q2436 : (Jvm.Cond.code ({ cls := "CrewPairerModel", name := "writeTwo", desc := "(I)V" } : Jvm.MethodName) prog_12_method_86_code (2 : Nat) (Option.none : Option Jvm.ClassFile.FieldType)) ∈ lw_all := lw_g (lw_at lw_m10 169 rfl) rfl
theorem q2437 : (Jvm.Cond.stringRef "CrewPairerModel" (274 : Nat) " fly;") ∈ lw_tbl := lw_at lw_m10 170 rfl
theorem q2438 : (Jvm.Cond.stringRef "CrewPairerModel" (276 : Nat) " ride;") ∈ lw_tbl := lw_at lw_m10 171 rfl
theorem q2439 : (Jvm.Cond.methodLink "CrewPairerModel" (278 : Nat) ({ cls := "java/lang/String", name := "length", desc := "()I" } : Jvm.MethodName)) ∈ lw_all := lw_g (lw_at lw_m10 172 rfl) rfl
theorem q2440 : (Jvm.Cond.methodLink "CrewPairerModel" (283 : Nat) ({ cls := "java/lang/String", name := "charAt", desc := "(I)C" } : Jvm.MethodName)) ∈ lw_all := lw_g (lw_at lw_m10 173 rfl) rfl
theorem q2442 : (Jvm.Cond.instanceMethod ({ cls := "CrewPairerModel", name := "feed", desc := "(I)I" } : Jvm.MethodName)) ∈ lw_all := lw_g (lw_at lw_m10 175 rfl) rfl
theorem q2443 : (Jvm.Cond.selects "CrewPairerModel" ({ cls := "CrewPairerModel", name := "feed", desc := "(I)I" } : Jvm.MethodName) ({ cls := "CrewPairerModel", name := "feed", desc := "(I)I" } : Jvm.MethodName)) ∈ lw_all := lw_g (lw_at lw_m10 176 rfl) rfl
theorem q2444 : (Jvm.Cond.code ({ cls := "CrewPairerModel", name := "feed", desc := "(I)I" } : Jvm.MethodName) prog_12_method_90_code (2 : Nat) (Option.some Jvm.ClassFile.FieldType.int)) ∈ lw_all := lw_g (lw_at lw_m10 177 rfl) rfl
theorem q2446 : (Jvm.Cond.instanceMethod ({ cls := "CrewPairerModel", name := "execute", desc := "()I" } : Jvm.MethodName)) ∈ lw_all := lw_g (lw_at lw_m10 179 rfl) rfl
theorem q2447 : (Jvm.Cond.selects "CrewPairerModel" ({ cls := "CrewPairerModel", name := "execute", desc := "()I" } : Jvm.MethodName) ({ cls := "CrewPairerModel", name := "execute", desc := "()I" } : Jvm.MethodName)) ∈ lw_all := lw_g (lw_at lw_m10 180 rfl) rfl
theorem q2448 : (Jvm.Cond.code ({ cls := "CrewPairerModel", name := "execute", desc := "()I" } : Jvm.MethodName) prog_12_method_97_code (4 : Nat) (Option.some Jvm.ClassFile.FieldType.int)) ∈ lw_all := lw_g (lw_at lw_m10 181 rfl) rfl
theorem q2449 : (Jvm.Cond.methodLink "CrewPairerModel" (359 : Nat) ({ cls := "CrewPairerModel", name := "command", desc := "(Z)I" } : Jvm.MethodName)) ∈ lw_all := lw_g (lw_at lw_m10 182 rfl) rfl
theorem q2450 : (Jvm.Cond.privateMethod ({ cls := "CrewPairerModel", name := "command", desc := "(Z)I" } : Jvm.MethodName)) ∈ lw_tbl := lw_at lw_m10 183 rfl
theorem q2451 : (Jvm.Cond.instanceMethod ({ cls := "CrewPairerModel", name := "command", desc := "(Z)I" } : Jvm.MethodName)) ∈ lw_all := lw_g (lw_at lw_m10 184 rfl) rfl
theorem q2452 : (Jvm.Cond.code ({ cls := "CrewPairerModel", name := "command", desc := "(Z)I" } : Jvm.MethodName) prog_12_method_96_code (6 : Nat) (Option.some Jvm.ClassFile.FieldType.int)) ∈ lw_all := lw_g (lw_at lw_m10 185 rfl) rfl
theorem q2453 : (Jvm.Cond.methodLink "CrewPairerModel" (319 : Nat) ({ cls := "CrewPairerModel", name := "here", desc := "()I" } : Jvm.MethodName)) ∈ lw_all := lw_g (lw_at lw_m10 186 rfl) rfl
theorem q2454 : (Jvm.Cond.privateMethod ({ cls := "CrewPairerModel", name := "here", desc := "()I" } : Jvm.MethodName)) ∈ lw_tbl := lw_at lw_m10 187 rfl
theorem q2455 : (Jvm.Cond.instanceMethod ({ cls := "CrewPairerModel", name := "here", desc := "()I" } : Jvm.MethodName)) ∈ lw_all := lw_g (lw_at lw_m10 188 rfl) rfl
theorem q2456 : (Jvm.Cond.code ({ cls := "CrewPairerModel", name := "here", desc := "()I" } : Jvm.MethodName) prog_12_method_91_code (1 : Nat) (Option.some Jvm.ClassFile.FieldType.int)) ∈ lw_all := lw_g (lw_at lw_m10 189 rfl) rfl
theorem q2457 : (Jvm.Cond.methodLink "CrewPairerModel" (350 : Nat) ({ cls := "CrewPairerModel", name := "wordOf", desc := "(I)I" } : Jvm.MethodName)) ∈ lw_all := lw_g (lw_at lw_m10 190 rfl) rfl
theorem q2458 : (Jvm.Cond.privateMethod ({ cls := "CrewPairerModel", name := "wordOf", desc := "(I)I" } : Jvm.MethodName)) ∈ lw_tbl := lw_at lw_m10 191 rfl
theorem q2459 : (Jvm.Cond.instanceMethod ({ cls := "CrewPairerModel", name := "wordOf", desc := "(I)I" } : Jvm.MethodName)) ∈ lw_all := lw_g (lw_at lw_m10 192 rfl) rfl
theorem q2460 : (Jvm.Cond.code ({ cls := "CrewPairerModel", name := "wordOf", desc := "(I)I" } : Jvm.MethodName) prog_12_method_93_code (5 : Nat) (Option.some Jvm.ClassFile.FieldType.int)) ∈ lw_all := lw_g (lw_at lw_m10 193 rfl) rfl
theorem q2461 : (Jvm.Cond.classLink "CrewPairerModel" (279 : Nat) "java/lang/String") ∈ lw_all := lw_g (lw_at lw_m10 194 rfl) rfl
theorem q2462 : (Jvm.Cond.stringRef "CrewPairerModel" (295 : Nat) "leg") ∈ lw_tbl := lw_at lw_m10 195 rfl
theorem q2463 : (Jvm.Cond.stringRef "CrewPairerModel" (297 : Nat) "crew") ∈ lw_tbl := lw_at lw_m10 196 rfl
theorem q2464 : (Jvm.Cond.stringRef "CrewPairerModel" (299 : Nat) "fly") ∈ lw_tbl := lw_at lw_m10 197 rfl
theorem q2465 : (Jvm.Cond.stringRef "CrewPairerModel" (301 : Nat) "ride") ∈ lw_tbl := lw_at lw_m10 198 rfl
theorem q2466 : (Jvm.Cond.stringRef "CrewPairerModel" (303 : Nat) "drop") ∈ lw_tbl := lw_at lw_m10 199 rfl
theorem q2467 : (Jvm.Cond.stringRef "CrewPairerModel" (305 : Nat) "late") ∈ lw_tbl := lw_at lw_m10 200 rfl
theorem q2468 : (Jvm.Cond.stringRef "CrewPairerModel" (307 : Nat) "cancel") ∈ lw_tbl := lw_at lw_m10 201 rfl
theorem q2469 : (Jvm.Cond.stringRef "CrewPairerModel" (309 : Nat) "rule") ∈ lw_tbl := lw_at lw_m10 202 rfl
theorem q2470 : (Jvm.Cond.stringRef "CrewPairerModel" (311 : Nat) "pair") ∈ lw_tbl := lw_at lw_m10 203 rfl
theorem q2471 : (Jvm.Cond.stringRef "CrewPairerModel" (313 : Nat) "repair") ∈ lw_tbl := lw_at lw_m10 204 rfl
theorem q2472 : (Jvm.Cond.methodLink "CrewPairerModel" (315 : Nat) ({ cls := "CrewPairerModel", name := "isWord", desc := "(ILjava/lang/String;)Z" } : Jvm.MethodName)) ∈ lw_all := lw_g (lw_at lw_m10 205 rfl) rfl
theorem q2473 : (Jvm.Cond.privateMethod ({ cls := "CrewPairerModel", name := "isWord", desc := "(ILjava/lang/String;)Z" } : Jvm.MethodName)) ∈ lw_tbl := lw_at lw_m10 206 rfl
theorem q2474 : (Jvm.Cond.instanceMethod ({ cls := "CrewPairerModel", name := "isWord", desc := "(ILjava/lang/String;)Z" } : Jvm.MethodName)) ∈ lw_all := lw_g (lw_at lw_m10 207 rfl) rfl
theorem q2475 : (Jvm.Cond.code ({ cls := "CrewPairerModel", name := "isWord", desc := "(ILjava/lang/String;)Z" } : Jvm.MethodName) prog_12_method_92_code (5 : Nat) (Option.some Jvm.ClassFile.FieldType.boolean)) ∈ lw_all := lw_g (lw_at lw_m10 208 rfl) rfl
theorem q2476 : (Jvm.Cond.methodLink "CrewPairerModel" (353 : Nat) ({ cls := "CrewPairerModel", name := "readNumber", desc := "(I)V" } : Jvm.MethodName)) ∈ lw_all := lw_g (lw_at lw_m10 209 rfl) rfl
theorem q2477 : (Jvm.Cond.privateMethod ({ cls := "CrewPairerModel", name := "readNumber", desc := "(I)V" } : Jvm.MethodName)) ∈ lw_tbl := lw_at lw_m10 210 rfl
theorem q2478 : (Jvm.Cond.instanceMethod ({ cls := "CrewPairerModel", name := "readNumber", desc := "(I)V" } : Jvm.MethodName)) ∈ lw_all := lw_g (lw_at lw_m10 211 rfl) rfl
theorem q2479 : (Jvm.Cond.code ({ cls := "CrewPairerModel", name := "readNumber", desc := "(I)V" } : Jvm.MethodName) prog_12_method_94_code (3 : Nat) (Option.none : Option Jvm.ClassFile.FieldType)) ∈ lw_all := lw_g (lw_at lw_m10 212 rfl) rfl
theorem q2480 : (Jvm.Cond.methodLink "CrewPairerModel" (356 : Nat) ({ cls := "CrewPairerModel", name := "perform", desc := "(I)I" } : Jvm.MethodName)) ∈ lw_all := lw_g (lw_at lw_m10 213 rfl) rfl
theorem q2481 : (Jvm.Cond.privateMethod ({ cls := "CrewPairerModel", name := "perform", desc := "(I)I" } : Jvm.MethodName)) ∈ lw_tbl := lw_at lw_m10 214 rfl
theorem q2482 : (Jvm.Cond.instanceMethod ({ cls := "CrewPairerModel", name := "perform", desc := "(I)I" } : Jvm.MethodName)) ∈ lw_all := lw_g (lw_at lw_m10 215 rfl) rfl
theorem q2483 : (Jvm.Cond.code ({ cls := "CrewPairerModel", name := "perform", desc := "(I)I" } : Jvm.MethodName) prog_12_method_95_code (4 : Nat) (Option.some Jvm.ClassFile.FieldType.int)) ∈ lw_all := lw_g (lw_at lw_m10 216 rfl) rfl
theorem q2484 : (Jvm.Cond.methodLink "CrewPairerModel" (325 : Nat) ({ cls := "CrewPairerModel", name := "addLeg", desc := "(IIII)I" } : Jvm.MethodName)) ∈ lw_all := lw_g (lw_at lw_m10 217 rfl) rfl
theorem q2485 : (Jvm.Cond.methodLink "CrewPairerModel" (329 : Nat) ({ cls := "CrewPairerModel", name := "addCrew", desc := "(I)I" } : Jvm.MethodName)) ∈ lw_all := lw_g (lw_at lw_m10 218 rfl) rfl
theorem q2486 : (Jvm.Cond.methodLink "CrewPairerModel" (332 : Nat) ({ cls := "CrewPairerModel", name := "fly", desc := "(II)I" } : Jvm.MethodName)) ∈ lw_all := lw_g (lw_at lw_m10 219 rfl) rfl
theorem q2487 : (Jvm.Cond.methodLink "CrewPairerModel" (334 : Nat) ({ cls := "CrewPairerModel", name := "ride", desc := "(II)I" } : Jvm.MethodName)) ∈ lw_all := lw_g (lw_at lw_m10 220 rfl) rfl
theorem q2488 : (Jvm.Cond.methodLink "CrewPairerModel" (336 : Nat) ({ cls := "CrewPairerModel", name := "drop", desc := "(II)I" } : Jvm.MethodName)) ∈ lw_all := lw_g (lw_at lw_m10 221 rfl) rfl
theorem q2489 : (Jvm.Cond.methodLink "CrewPairerModel" (338 : Nat) ({ cls := "CrewPairerModel", name := "delay", desc := "(II)I" } : Jvm.MethodName)) ∈ lw_all := lw_g (lw_at lw_m10 222 rfl) rfl
theorem q2490 : (Jvm.Cond.methodLink "CrewPairerModel" (341 : Nat) ({ cls := "CrewPairerModel", name := "cancel", desc := "(I)I" } : Jvm.MethodName)) ∈ lw_all := lw_g (lw_at lw_m10 223 rfl) rfl
theorem q2491 : (Jvm.Cond.methodLink "CrewPairerModel" (343 : Nat) ({ cls := "CrewPairerModel", name := "setRule", desc := "(II)I" } : Jvm.MethodName)) ∈ lw_all := lw_g (lw_at lw_m10 224 rfl) rfl
theorem q2492 : (Jvm.Cond.methodLink "CrewPairerModel" (346 : Nat) ({ cls := "CrewPairerModel", name := "pair", desc := "()I" } : Jvm.MethodName)) ∈ lw_all := lw_g (lw_at lw_m10 225 rfl) rfl
theorem q2493 : (Jvm.Cond.methodLink "CrewPairerModel" (348 : Nat) ({ cls := "CrewPairerModel", name := "repair", desc := "()I" } : Jvm.MethodName)) ∈ lw_all := lw_g (lw_at lw_m10 226 rfl) rfl
theorem q2495 : (Jvm.Cond.instanceMethod ({ cls := "CrewPairerModel", name := "save", desc := "()I" } : Jvm.MethodName)) ∈ lw_all := lw_g (lw_at lw_m10 228 rfl) rfl
theorem q2496 : (Jvm.Cond.selects "CrewPairerModel" ({ cls := "CrewPairerModel", name := "save", desc := "()I" } : Jvm.MethodName) ({ cls := "CrewPairerModel", name := "save", desc := "()I" } : Jvm.MethodName)) ∈ lw_all := lw_g (lw_at lw_m10 229 rfl) rfl
theorem q2497 : (Jvm.Cond.code ({ cls := "CrewPairerModel", name := "save", desc := "()I" } : Jvm.MethodName) prog_12_method_98_code (1 : Nat) (Option.some Jvm.ClassFile.FieldType.int)) ∈ lw_all := lw_g (lw_at lw_m10 230 rfl) rfl
theorem q2499 : (Jvm.Cond.instanceMethod ({ cls := "CrewPairerModel", name := "restore", desc := "()I" } : Jvm.MethodName)) ∈ lw_all := lw_g (lw_at lw_m10 232 rfl) rfl
theorem q2500 : (Jvm.Cond.selects "CrewPairerModel" ({ cls := "CrewPairerModel", name := "restore", desc := "()I" } : Jvm.MethodName) ({ cls := "CrewPairerModel", name := "restore", desc := "()I" } : Jvm.MethodName)) ∈ lw_all := lw_g (lw_at lw_m10 233 rfl) rfl
theorem q2501 : (Jvm.Cond.code ({ cls := "CrewPairerModel", name := "restore", desc := "()I" } : Jvm.MethodName) prog_12_method_99_code (1 : Nat) (Option.some Jvm.ClassFile.FieldType.int)) ∈ lw_all := lw_g (lw_at lw_m10 234 rfl) rfl
theorem q2503 : (Jvm.Cond.instanceMethod ({ cls := "CrewPairerModel", name := "undo", desc := "()I" } : Jvm.MethodName)) ∈ lw_all := lw_g (lw_at lw_m10 236 rfl) rfl
theorem q2504 : (Jvm.Cond.selects "CrewPairerModel" ({ cls := "CrewPairerModel", name := "undo", desc := "()I" } : Jvm.MethodName) ({ cls := "CrewPairerModel", name := "undo", desc := "()I" } : Jvm.MethodName)) ∈ lw_all := lw_g (lw_at lw_m10 237 rfl) rfl
theorem q2505 : (Jvm.Cond.code ({ cls := "CrewPairerModel", name := "undo", desc := "()I" } : Jvm.MethodName) prog_12_method_100_code (1 : Nat) (Option.some Jvm.ClassFile.FieldType.int)) ∈ lw_all := lw_g (lw_at lw_m10 238 rfl) rfl
theorem q2536 : (Jvm.Cond.castable "CrewPairerModel" "java/lang/Object") ∈ lw_tbl := lw_at lw_m11 29 rfl
theorem in_X2 : ∀ w ∈ wsX20, w ∈ lw_all := lw_in wsX20 [2019, 2021, 2023, 2025, 2027, 2029, 2031, 2033, 2035, 2037, 2039, 2041, 2043, 2045, 2047, 2049, 2051, 2053, 2055, 2057, 2059, 2061, 2063, 2065, 2067, 2069, 2071, 2073, 2075, 2077] (by decide +kernel) (by decide +kernel)
