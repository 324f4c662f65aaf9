/-! BreathTown -/
set_option maxRecDepth 100000
def RX0 : String := "BreathTown"
def TX0 : u_T := fun k => match k with
  | 0 => ("BreathTown", "town", "LBreathTown$Town;", false)
  | 1 => ("BreathTown", "tape", "[B", true)
  | 2 => ("BreathTown", "taped", "I", false)
  | 3 => ("BreathTown", "faultKind", "I", false)
  | 4 => ("BreathTown", "faultPlace", "I", false)
  | 5 => ("BreathTown", "reader", "LBreathTown$Reader;", true)
  | 6 => ("BreathTown", "moment", "LBreathTown$Moment;", true)
  | 7 => ("BreathTown", "tides", "LBreathTown$Moment;", true)
  | 8 => ("BreathTown", "refused", "[I", true)
  | 9 => ("BreathTown", "now", "LBreathTown$State;", true)
  | 10 => ("BreathTown", "others", "[[I", true)
  | 11 => ("BreathTown", "othersMany", "I", false)
  | 12 => ("BreathTown", "gone", "I", false)
  | 13 => ("BreathTown", "soonest", "[I", true)
  | 14 => ("BreathTown", "done", "[Z", true)
  | 15 => ("BreathTown", "wayStreet", "[I", true)
  | 16 => ("BreathTown", "wayHour", "[I", true)
  | 17 => ("BreathTown", "wayLong", "I", false)
  | 18 => ("BreathTown", "setOut", "I", false)
  | 19 => ("BreathTown", "together", "[I", true)
  | 20 => ("BreathTown", "order", "[I", true)
  | 21 => ("BreathTown", "arrives", "[I", true)
  | 22 => ("BreathTown", "bestOrder", "[I", true)
  | 23 => ("BreathTown", "bestArrives", "[I", true)
  | 24 => ("BreathTown", "bestLast", "I", false)
  | 25 => ("BreathTown", "bestSum", "I", false)
  | 26 => ("BreathTown", "inTime", "[[I", true)
  | 27 => ("BreathTown", "kept", "[LBreathTown$State;", true)
  | 28 => ("BreathTown", "undos", "I", false)
  | 29 => ("BreathTown", "seeds", "J", false)
  | 30 => ("BreathTown", "sight", "[[I", true)
  | 31 => ("BreathTown", "sights", "I", false)
  | 32 => ("BreathTown", "askedHour", "I", false)
  | 33 => ("BreathTown", "out", "[B", true)
  | _ => ("BreathTown", "outs", "I", false)
def tyX0 : Nat → FieldType := fun k => match k with
  | 0 => .object "BreathTown$Town"
  | 1 => .array .byte
  | 2 => .int
  | 3 => .int
  | 4 => .int
  | 5 => .object "BreathTown$Reader"
  | 6 => .object "BreathTown$Moment"
  | 7 => .object "BreathTown$Moment"
  | 8 => .array .int
  | 9 => .object "BreathTown$State"
  | 10 => .array (.array .int)
  | 11 => .int
  | 12 => .int
  | 13 => .array .int
  | 14 => .array .boolean
  | 15 => .array .int
  | 16 => .array .int
  | 17 => .int
  | 18 => .int
  | 19 => .array .int
  | 20 => .array .int
  | 21 => .array .int
  | 22 => .array .int
  | 23 => .array .int
  | 24 => .int
  | 25 => .int
  | 26 => .array (.array .int)
  | 27 => .array (.object "BreathTown$State")
  | 28 => .int
  | 29 => .long
  | 30 => .array (.array .int)
  | 31 => .int
  | 32 => .int
  | 33 => .array .byte
  | _ => .int
abbrev wsX00 : List Cond := u_ws RX0 TX0 35
set_option maxRecDepth 100000 in
theorem nmX0 : ∀ a, a < 35 → ∀ b, b < 35 → a ≠ b → (TX0 a).2.1 ≠ (TX0 b).2.1 := by decide +kernel
set_option maxRecDepth 100000 in
theorem tyX0_ok : ∀ k, k < 35 → parseFieldDescriptor (TX0 k).2.2.1 = some (tyX0 k) := by decide +kernel
abbrev cX0_init : ByteArray := prog_1_method_7_code
def yX0_init : MethodName := ⟨RX0, "<init>", "()V"⟩
def dkwX0_init_10 : List UInt8 := [16, 39, 188, 8, 181, 0, 123, 177]
abbrev dktX0_init_10 : List UInt8 := dkwX0_init_10 ++ []
def dkwX0_init_9 : List UInt8 := [83, 132, 1, 1, 167, 255, 233, 42, 10, 181, 0, 116, 42, 16, 20, 6, 197, 0, 73, 2, 181, 0, 120, 42]
abbrev dktX0_init_9 : List UInt8 := dkwX0_init_9 ++ dktX0_init_10
def dkwX0_init_8 : List UInt8 := [181, 0, 112, 3, 60, 27, 16, 20, 162, 0, 23, 42, 180, 0, 112, 27, 187, 0, 66, 89, 42, 183, 0, 68]
abbrev dktX0_init_8 : List UInt8 := dkwX0_init_8 ++ dktX0_init_9
def dkwX0_init_7 : List UInt8 := [188, 10, 181, 0, 106, 42, 16, 9, 16, 24, 197, 0, 73, 2, 181, 0, 109, 42, 16, 20, 189, 0, 66]
abbrev dktX0_init_7 : List UInt8 := dkwX0_init_7 ++ dktX0_init_8
def dkwX0_init_6 : List UInt8 := [42, 7, 188, 10, 181, 0, 97, 42, 7, 188, 10, 181, 0, 100, 42, 7, 188, 10, 181, 0, 103, 42, 7]
abbrev dktX0_init_6 : List UInt8 := dkwX0_init_6 ++ dktX0_init_7
def dkwX0_init_5 : List UInt8 := [42, 16, 9, 188, 10, 181, 0, 88, 42, 16, 9, 188, 10, 181, 0, 91, 42, 16, 9, 188, 10, 181, 0, 94]
abbrev dktX0_init_5 : List UInt8 := dkwX0_init_5 ++ dktX0_init_6
def dkwX0_init_4 : List UInt8 := [181, 0, 75, 42, 2, 181, 0, 78, 42, 16, 9, 188, 10, 181, 0, 81, 42, 16, 9, 188, 4, 181, 0, 84]
abbrev dktX0_init_4 : List UInt8 := dkwX0_init_4 ++ dktX0_init_5
def dkwX0_init_3 : List UInt8 := [181, 0, 62, 42, 187, 0, 66, 89, 42, 183, 0, 68, 181, 0, 69, 42, 16, 36, 6, 197, 0, 73, 2]
abbrev dktX0_init_3 : List UInt8 := dkwX0_init_3 ++ dktX0_init_4
def dkwX0_init_2 : List UInt8 := [183, 0, 54, 181, 0, 55, 42, 187, 0, 52, 89, 183, 0, 54, 181, 0, 59, 42, 16, 6, 188, 10]
abbrev dktX0_init_2 : List UInt8 := dkwX0_init_2 ++ dktX0_init_3
def dkwX0_init_1 : List UInt8 := [42, 2, 181, 0, 39, 42, 187, 0, 43, 89, 42, 183, 0, 45, 181, 0, 48, 42, 187, 0, 52, 89]
abbrev dktX0_init_1 : List UInt8 := dkwX0_init_1 ++ dktX0_init_2
def dkwX0_init_0 : List UInt8 := [42, 183, 0, 22, 42, 187, 0, 28, 89, 183, 0, 30, 181, 0, 31, 42, 17, 6, 64, 188, 8, 181, 0, 35]
abbrev dktX0_init_0 : List UInt8 := dkwX0_init_0 ++ dktX0_init_1
theorem dksX0_init_0 : cX0_init.data.toList.drop 0 = dktX0_init_0 := by decide +kernel
theorem dksX0_init_1 : cX0_init.data.toList.drop 24 = dktX0_init_1 := dk_seg dksX0_init_0 24 rfl rfl
theorem dksX0_init_2 : cX0_init.data.toList.drop 46 = dktX0_init_2 := dk_seg dksX0_init_1 22 rfl rfl
theorem dksX0_init_3 : cX0_init.data.toList.drop 68 = dktX0_init_3 := dk_seg dksX0_init_2 22 rfl rfl
theorem dksX0_init_4 : cX0_init.data.toList.drop 91 = dktX0_init_4 := dk_seg dksX0_init_3 23 rfl rfl
theorem dksX0_init_5 : cX0_init.data.toList.drop 115 = dktX0_init_5 := dk_seg dksX0_init_4 24 rfl rfl
theorem dksX0_init_6 : cX0_init.data.toList.drop 139 = dktX0_init_6 := dk_seg dksX0_init_5 24 rfl rfl
theorem dksX0_init_7 : cX0_init.data.toList.drop 162 = dktX0_init_7 := dk_seg dksX0_init_6 23 rfl rfl
theorem dksX0_init_8 : cX0_init.data.toList.drop 185 = dktX0_init_8 := dk_seg dksX0_init_7 23 rfl rfl
theorem dksX0_init_9 : cX0_init.data.toList.drop 209 = dktX0_init_9 := dk_seg dksX0_init_8 24 rfl rfl
theorem dksX0_init_10 : cX0_init.data.toList.drop 233 = dktX0_init_10 := dk_seg dksX0_init_9 24 rfl rfl
theorem dX0_init_0 : decode cX0_init 0 = .ok (.aload_n 0, 1) := dk_42 (dk_at dksX0_init_0 0 rfl rfl)
theorem dX0_init_1 : decode cX0_init 1 = .ok (.invokespecial 22, 3) := dk_183 0 22 (dk_at dksX0_init_0 1 rfl rfl)
theorem dX0_init_4 : decode cX0_init 4 = .ok (.aload_n 0, 1) := dk_42 (dk_at dksX0_init_0 4 rfl rfl)
theorem dX0_init_5 : decode cX0_init 5 = .ok (.new 28, 3) := dk_187 0 28 (dk_at dksX0_init_0 5 rfl rfl)
theorem dX0_init_8 : decode cX0_init 8 = .ok (.dup, 1) := dk_89 (dk_at dksX0_init_0 8 rfl rfl)
theorem dX0_init_9 : decode cX0_init 9 = .ok (.invokespecial 30, 3) := dk_183 0 30 (dk_at dksX0_init_0 9 rfl rfl)
theorem dX0_init_12 : decode cX0_init 12 = .ok (.putfield 31, 3) := dk_181 0 31 (dk_at dksX0_init_0 12 rfl rfl)
theorem dX0_init_15 : decode cX0_init 15 = .ok (.aload_n 0, 1) := dk_42 (dk_at dksX0_init_0 15 rfl rfl)
theorem dX0_init_16 : decode cX0_init 16 = .ok (.sipush 1600, 3) := dk_17 6 64 (dk_at dksX0_init_0 16 rfl rfl)
theorem dX0_init_19 : decode cX0_init 19 = .ok (.newarray .byte, 2) := dk_188_8 (dk_at dksX0_init_0 19 rfl rfl)
theorem dX0_init_21 : decode cX0_init 21 = .ok (.putfield 35, 3) := dk_181 0 35 (dk_at dksX0_init_0 21 rfl rfl)
theorem dX0_init_24 : decode cX0_init 24 = .ok (.aload_n 0, 1) := dk_42 (dk_at dksX0_init_1 0 rfl rfl)
theorem dX0_init_25 : decode cX0_init 25 = .ok (.iconst (-1), 1) := dk_2 (dk_at dksX0_init_1 1 rfl rfl)
theorem dX0_init_26 : decode cX0_init 26 = .ok (.putfield 39, 3) := dk_181 0 39 (dk_at dksX0_init_1 2 rfl rfl)
theorem dX0_init_29 : decode cX0_init 29 = .ok (.aload_n 0, 1) := dk_42 (dk_at dksX0_init_1 5 rfl rfl)
theorem dX0_init_30 : decode cX0_init 30 = .ok (.new 43, 3) := dk_187 0 43 (dk_at dksX0_init_1 6 rfl rfl)
theorem dX0_init_33 : decode cX0_init 33 = .ok (.dup, 1) := dk_89 (dk_at dksX0_init_1 9 rfl rfl)
theorem dX0_init_34 : decode cX0_init 34 = .ok (.aload_n 0, 1) := dk_42 (dk_at dksX0_init_1 10 rfl rfl)
theorem dX0_init_35 : decode cX0_init 35 = .ok (.invokespecial 45, 3) := dk_183 0 45 (dk_at dksX0_init_1 11 rfl rfl)
theorem dX0_init_38 : decode cX0_init 38 = .ok (.putfield 48, 3) := dk_181 0 48 (dk_at dksX0_init_1 14 rfl rfl)
theorem dX0_init_41 : decode cX0_init 41 = .ok (.aload_n 0, 1) := dk_42 (dk_at dksX0_init_1 17 rfl rfl)
theorem dX0_init_42 : decode cX0_init 42 = .ok (.new 52, 3) := dk_187 0 52 (dk_at dksX0_init_1 18 rfl rfl)
theorem dX0_init_45 : decode cX0_init 45 = .ok (.dup, 1) := dk_89 (dk_at dksX0_init_1 21 rfl rfl)
theorem dX0_init_46 : decode cX0_init 46 = .ok (.invokespecial 54, 3) := dk_183 0 54 (dk_at dksX0_init_2 0 rfl rfl)
theorem dX0_init_49 : decode cX0_init 49 = .ok (.putfield 55, 3) := dk_181 0 55 (dk_at dksX0_init_2 3 rfl rfl)
theorem dX0_init_52 : decode cX0_init 52 = .ok (.aload_n 0, 1) := dk_42 (dk_at dksX0_init_2 6 rfl rfl)
theorem dX0_init_53 : decode cX0_init 53 = .ok (.new 52, 3) := dk_187 0 52 (dk_at dksX0_init_2 7 rfl rfl)
theorem dX0_init_56 : decode cX0_init 56 = .ok (.dup, 1) := dk_89 (dk_at dksX0_init_2 10 rfl rfl)
theorem dX0_init_57 : decode cX0_init 57 = .ok (.invokespecial 54, 3) := dk_183 0 54 (dk_at dksX0_init_2 11 rfl rfl)
theorem dX0_init_60 : decode cX0_init 60 = .ok (.putfield 59, 3) := dk_181 0 59 (dk_at dksX0_init_2 14 rfl rfl)
theorem dX0_init_63 : decode cX0_init 63 = .ok (.aload_n 0, 1) := dk_42 (dk_at dksX0_init_2 17 rfl rfl)
theorem dX0_init_64 : decode cX0_init 64 = .ok (.bipush 6, 2) := dk_16 6 (dk_at dksX0_init_2 18 rfl rfl)
theorem dX0_init_66 : decode cX0_init 66 = .ok (.newarray .int, 2) := dk_188_10 (dk_at dksX0_init_2 20 rfl rfl)
theorem dX0_init_68 : decode cX0_init 68 = .ok (.putfield 62, 3) := dk_181 0 62 (dk_at dksX0_init_3 0 rfl rfl)
theorem dX0_init_71 : decode cX0_init 71 = .ok (.aload_n 0, 1) := dk_42 (dk_at dksX0_init_3 3 rfl rfl)
theorem dX0_init_72 : decode cX0_init 72 = .ok (.new 66, 3) := dk_187 0 66 (dk_at dksX0_init_3 4 rfl rfl)
theorem dX0_init_75 : decode cX0_init 75 = .ok (.dup, 1) := dk_89 (dk_at dksX0_init_3 7 rfl rfl)
theorem dX0_init_76 : decode cX0_init 76 = .ok (.aload_n 0, 1) := dk_42 (dk_at dksX0_init_3 8 rfl rfl)
theorem dX0_init_77 : decode cX0_init 77 = .ok (.invokespecial 68, 3) := dk_183 0 68 (dk_at dksX0_init_3 9 rfl rfl)
theorem dX0_init_80 : decode cX0_init 80 = .ok (.putfield 69, 3) := dk_181 0 69 (dk_at dksX0_init_3 12 rfl rfl)
theorem dX0_init_83 : decode cX0_init 83 = .ok (.aload_n 0, 1) := dk_42 (dk_at dksX0_init_3 15 rfl rfl)
theorem dX0_init_84 : decode cX0_init 84 = .ok (.bipush 36, 2) := dk_16 36 (dk_at dksX0_init_3 16 rfl rfl)
theorem dX0_init_86 : decode cX0_init 86 = .ok (.iconst 3, 1) := dk_6 (dk_at dksX0_init_3 18 rfl rfl)
theorem dX0_init_87 : decode cX0_init 87 = .ok (.multianewarray 73 2, 4) := by decide +kernel
theorem dX0_init_91 : decode cX0_init 91 = .ok (.putfield 75, 3) := dk_181 0 75 (dk_at dksX0_init_4 0 rfl rfl)
theorem dX0_init_94 : decode cX0_init 94 = .ok (.aload_n 0, 1) := dk_42 (dk_at dksX0_init_4 3 rfl rfl)
theorem dX0_init_95 : decode cX0_init 95 = .ok (.iconst (-1), 1) := dk_2 (dk_at dksX0_init_4 4 rfl rfl)
theorem dX0_init_96 : decode cX0_init 96 = .ok (.putfield 78, 3) := dk_181 0 78 (dk_at dksX0_init_4 5 rfl rfl)
theorem dX0_init_99 : decode cX0_init 99 = .ok (.aload_n 0, 1) := dk_42 (dk_at dksX0_init_4 8 rfl rfl)
theorem dX0_init_100 : decode cX0_init 100 = .ok (.bipush 9, 2) := dk_16 9 (dk_at dksX0_init_4 9 rfl rfl)
theorem dX0_init_102 : decode cX0_init 102 = .ok (.newarray .int, 2) := dk_188_10 (dk_at dksX0_init_4 11 rfl rfl)
theorem dX0_init_104 : decode cX0_init 104 = .ok (.putfield 81, 3) := dk_181 0 81 (dk_at dksX0_init_4 13 rfl rfl)
theorem dX0_init_107 : decode cX0_init 107 = .ok (.aload_n 0, 1) := dk_42 (dk_at dksX0_init_4 16 rfl rfl)
theorem dX0_init_108 : decode cX0_init 108 = .ok (.bipush 9, 2) := dk_16 9 (dk_at dksX0_init_4 17 rfl rfl)
theorem dX0_init_110 : decode cX0_init 110 = .ok (.newarray .boolean, 2) := dk_188_4 (dk_at dksX0_init_4 19 rfl rfl)
theorem dX0_init_112 : decode cX0_init 112 = .ok (.putfield 84, 3) := dk_181 0 84 (dk_at dksX0_init_4 21 rfl rfl)
theorem dX0_init_115 : decode cX0_init 115 = .ok (.aload_n 0, 1) := dk_42 (dk_at dksX0_init_5 0 rfl rfl)
theorem dX0_init_116 : decode cX0_init 116 = .ok (.bipush 9, 2) := dk_16 9 (dk_at dksX0_init_5 1 rfl rfl)
theorem dX0_init_118 : decode cX0_init 118 = .ok (.newarray .int, 2) := dk_188_10 (dk_at dksX0_init_5 3 rfl rfl)
theorem dX0_init_120 : decode cX0_init 120 = .ok (.putfield 88, 3) := dk_181 0 88 (dk_at dksX0_init_5 5 rfl rfl)
theorem dX0_init_123 : decode cX0_init 123 = .ok (.aload_n 0, 1) := dk_42 (dk_at dksX0_init_5 8 rfl rfl)
theorem dX0_init_124 : decode cX0_init 124 = .ok (.bipush 9, 2) := dk_16 9 (dk_at dksX0_init_5 9 rfl rfl)
theorem dX0_init_126 : decode cX0_init 126 = .ok (.newarray .int, 2) := dk_188_10 (dk_at dksX0_init_5 11 rfl rfl)
theorem dX0_init_128 : decode cX0_init 128 = .ok (.putfield 91, 3) := dk_181 0 91 (dk_at dksX0_init_5 13 rfl rfl)
theorem dX0_init_131 : decode cX0_init 131 = .ok (.aload_n 0, 1) := dk_42 (dk_at dksX0_init_5 16 rfl rfl)
theorem dX0_init_132 : decode cX0_init 132 = .ok (.bipush 9, 2) := dk_16 9 (dk_at dksX0_init_5 17 rfl rfl)
theorem dX0_init_134 : decode cX0_init 134 = .ok (.newarray .int, 2) := dk_188_10 (dk_at dksX0_init_5 19 rfl rfl)
theorem dX0_init_136 : decode cX0_init 136 = .ok (.putfield 94, 3) := dk_181 0 94 (dk_at dksX0_init_5 21 rfl rfl)
theorem dX0_init_139 : decode cX0_init 139 = .ok (.aload_n 0, 1) := dk_42 (dk_at dksX0_init_6 0 rfl rfl)
theorem dX0_init_140 : decode cX0_init 140 = .ok (.iconst 4, 1) := dk_7 (dk_at dksX0_init_6 1 rfl rfl)
theorem dX0_init_141 : decode cX0_init 141 = .ok (.newarray .int, 2) := dk_188_10 (dk_at dksX0_init_6 2 rfl rfl)
theorem dX0_init_143 : decode cX0_init 143 = .ok (.putfield 97, 3) := dk_181 0 97 (dk_at dksX0_init_6 4 rfl rfl)
theorem dX0_init_146 : decode cX0_init 146 = .ok (.aload_n 0, 1) := dk_42 (dk_at dksX0_init_6 7 rfl rfl)
theorem dX0_init_147 : decode cX0_init 147 = .ok (.iconst 4, 1) := dk_7 (dk_at dksX0_init_6 8 rfl rfl)
theorem dX0_init_148 : decode cX0_init 148 = .ok (.newarray .int, 2) := dk_188_10 (dk_at dksX0_init_6 9 rfl rfl)
theorem dX0_init_150 : decode cX0_init 150 = .ok (.putfield 100, 3) := dk_181 0 100 (dk_at dksX0_init_6 11 rfl rfl)
theorem dX0_init_153 : decode cX0_init 153 = .ok (.aload_n 0, 1) := dk_42 (dk_at dksX0_init_6 14 rfl rfl)
theorem dX0_init_154 : decode cX0_init 154 = .ok (.iconst 4, 1) := dk_7 (dk_at dksX0_init_6 15 rfl rfl)
theorem dX0_init_155 : decode cX0_init 155 = .ok (.newarray .int, 2) := dk_188_10 (dk_at dksX0_init_6 16 rfl rfl)
theorem dX0_init_157 : decode cX0_init 157 = .ok (.putfield 103, 3) := dk_181 0 103 (dk_at dksX0_init_6 18 rfl rfl)
theorem dX0_init_160 : decode cX0_init 160 = .ok (.aload_n 0, 1) := dk_42 (dk_at dksX0_init_6 21 rfl rfl)
theorem dX0_init_161 : decode cX0_init 161 = .ok (.iconst 4, 1) := dk_7 (dk_at dksX0_init_6 22 rfl rfl)
theorem dX0_init_162 : decode cX0_init 162 = .ok (.newarray .int, 2) := dk_188_10 (dk_at dksX0_init_7 0 rfl rfl)
theorem dX0_init_164 : decode cX0_init 164 = .ok (.putfield 106, 3) := dk_181 0 106 (dk_at dksX0_init_7 2 rfl rfl)
theorem dX0_init_167 : decode cX0_init 167 = .ok (.aload_n 0, 1) := dk_42 (dk_at dksX0_init_7 5 rfl rfl)
theorem dX0_init_168 : decode cX0_init 168 = .ok (.bipush 9, 2) := dk_16 9 (dk_at dksX0_init_7 6 rfl rfl)
theorem dX0_init_170 : decode cX0_init 170 = .ok (.bipush 24, 2) := dk_16 24 (dk_at dksX0_init_7 8 rfl rfl)
theorem dX0_init_172 : decode cX0_init 172 = .ok (.multianewarray 73 2, 4) := by decide +kernel
theorem dX0_init_176 : decode cX0_init 176 = .ok (.putfield 109, 3) := dk_181 0 109 (dk_at dksX0_init_7 14 rfl rfl)
theorem dX0_init_179 : decode cX0_init 179 = .ok (.aload_n 0, 1) := dk_42 (dk_at dksX0_init_7 17 rfl rfl)
theorem dX0_init_180 : decode cX0_init 180 = .ok (.bipush 20, 2) := dk_16 20 (dk_at dksX0_init_7 18 rfl rfl)
theorem dX0_init_182 : decode cX0_init 182 = .ok (.anewarray 66, 3) := dk_189 0 66 (dk_at dksX0_init_7 20 rfl rfl)
theorem dX0_init_185 : decode cX0_init 185 = .ok (.putfield 112, 3) := dk_181 0 112 (dk_at dksX0_init_8 0 rfl rfl)
theorem dX0_init_188 : decode cX0_init 188 = .ok (.iconst 0, 1) := dk_3 (dk_at dksX0_init_8 3 rfl rfl)
theorem dX0_init_189 : decode cX0_init 189 = .ok (.istore_n 1, 1) := dk_60 (dk_at dksX0_init_8 4 rfl rfl)
theorem dX0_init_190 : decode cX0_init 190 = .ok (.iload_n 1, 1) := dk_27 (dk_at dksX0_init_8 5 rfl rfl)
theorem dX0_init_191 : decode cX0_init 191 = .ok (.bipush 20, 2) := dk_16 20 (dk_at dksX0_init_8 6 rfl rfl)
theorem dX0_init_193 : decode cX0_init 193 = .ok (.if_icmp .ge 23, 3) := dk_162 0 23 (dk_at dksX0_init_8 8 rfl rfl)
theorem dX0_init_196 : decode cX0_init 196 = .ok (.aload_n 0, 1) := dk_42 (dk_at dksX0_init_8 11 rfl rfl)
theorem dX0_init_197 : decode cX0_init 197 = .ok (.getfield 112, 3) := dk_180 0 112 (dk_at dksX0_init_8 12 rfl rfl)
theorem dX0_init_200 : decode cX0_init 200 = .ok (.iload_n 1, 1) := dk_27 (dk_at dksX0_init_8 15 rfl rfl)
theorem dX0_init_201 : decode cX0_init 201 = .ok (.new 66, 3) := dk_187 0 66 (dk_at dksX0_init_8 16 rfl rfl)
theorem dX0_init_204 : decode cX0_init 204 = .ok (.dup, 1) := dk_89 (dk_at dksX0_init_8 19 rfl rfl)
theorem dX0_init_205 : decode cX0_init 205 = .ok (.aload_n 0, 1) := dk_42 (dk_at dksX0_init_8 20 rfl rfl)
theorem dX0_init_206 : decode cX0_init 206 = .ok (.invokespecial 68, 3) := dk_183 0 68 (dk_at dksX0_init_8 21 rfl rfl)
theorem dX0_init_209 : decode cX0_init 209 = .ok (.aastore, 1) := dk_83 (dk_at dksX0_init_9 0 rfl rfl)
theorem dX0_init_210 : decode cX0_init 210 = .ok (.iinc 1 1, 3) := dk_132 1 1 (dk_at dksX0_init_9 1 rfl rfl)
theorem dX0_init_213 : decode cX0_init 213 = .ok (.goto (-23), 3) := dk_167 255 233 (dk_at dksX0_init_9 4 rfl rfl)
theorem dX0_init_216 : decode cX0_init 216 = .ok (.aload_n 0, 1) := dk_42 (dk_at dksX0_init_9 7 rfl rfl)
theorem dX0_init_217 : decode cX0_init 217 = .ok (.lconst 1, 1) := dk_10 (dk_at dksX0_init_9 8 rfl rfl)
theorem dX0_init_218 : decode cX0_init 218 = .ok (.putfield 116, 3) := dk_181 0 116 (dk_at dksX0_init_9 9 rfl rfl)
theorem dX0_init_221 : decode cX0_init 221 = .ok (.aload_n 0, 1) := dk_42 (dk_at dksX0_init_9 12 rfl rfl)
theorem dX0_init_222 : decode cX0_init 222 = .ok (.bipush 20, 2) := dk_16 20 (dk_at dksX0_init_9 13 rfl rfl)
theorem dX0_init_224 : decode cX0_init 224 = .ok (.iconst 3, 1) := dk_6 (dk_at dksX0_init_9 15 rfl rfl)
theorem dX0_init_225 : decode cX0_init 225 = .ok (.multianewarray 73 2, 4) := by decide +kernel
theorem dX0_init_229 : decode cX0_init 229 = .ok (.putfield 120, 3) := dk_181 0 120 (dk_at dksX0_init_9 20 rfl rfl)
theorem dX0_init_232 : decode cX0_init 232 = .ok (.aload_n 0, 1) := dk_42 (dk_at dksX0_init_9 23 rfl rfl)
theorem dX0_init_233 : decode cX0_init 233 = .ok (.bipush 39, 2) := dk_16 39 (dk_at dksX0_init_10 0 rfl rfl)
theorem dX0_init_235 : decode cX0_init 235 = .ok (.newarray .byte, 2) := dk_188_8 (dk_at dksX0_init_10 2 rfl rfl)
theorem dX0_init_237 : decode cX0_init 237 = .ok (.putfield 123, 3) := dk_181 0 123 (dk_at dksX0_init_10 4 rfl rfl)
theorem dX0_init_240 : decode cX0_init 240 = .ok (.return_, 1) := dk_177 (dk_at dksX0_init_10 7 rfl rfl)
abbrev cX0_feed : ByteArray := prog_1_method_10_code
def yX0_feed : MethodName := ⟨RX0, "feed", "(IIIII)I"⟩
def dkwX0_feed_2 : List UInt8 := [180, 0, 126, 172]
abbrev dktX0_feed_2 : List UInt8 := dkwX0_feed_2 ++ []
def dkwX0_feed_1 : List UInt8 := [42, 28, 182, 0, 133, 42, 29, 182, 0, 133, 42, 21, 4, 182, 0, 133, 42, 21, 5, 182, 0, 133, 42]
abbrev dktX0_feed_1 : List UInt8 := dkwX0_feed_1 ++ dktX0_feed_2
def dkwX0_feed_0 : List UInt8 := [42, 180, 0, 126, 16, 20, 96, 17, 6, 64, 164, 0, 9, 42, 3, 182, 0, 129, 172, 42, 27, 182, 0, 133]
abbrev dktX0_feed_0 : List UInt8 := dkwX0_feed_0 ++ dktX0_feed_1
theorem dksX0_feed_0 : cX0_feed.data.toList.drop 0 = dktX0_feed_0 := by decide +kernel
theorem dksX0_feed_1 : cX0_feed.data.toList.drop 24 = dktX0_feed_1 := dk_seg dksX0_feed_0 24 rfl rfl
theorem dksX0_feed_2 : cX0_feed.data.toList.drop 47 = dktX0_feed_2 := dk_seg dksX0_feed_1 23 rfl rfl
theorem dX0_feed_0 : decode cX0_feed 0 = .ok (.aload_n 0, 1) := dk_42 (dk_at dksX0_feed_0 0 rfl rfl)
theorem dX0_feed_1 : decode cX0_feed 1 = .ok (.getfield 126, 3) := dk_180 0 126 (dk_at dksX0_feed_0 1 rfl rfl)
theorem dX0_feed_4 : decode cX0_feed 4 = .ok (.bipush 20, 2) := dk_16 20 (dk_at dksX0_feed_0 4 rfl rfl)
theorem dX0_feed_6 : decode cX0_feed 6 = .ok (.iadd, 1) := dk_96 (dk_at dksX0_feed_0 6 rfl rfl)
theorem dX0_feed_7 : decode cX0_feed 7 = .ok (.sipush 1600, 3) := dk_17 6 64 (dk_at dksX0_feed_0 7 rfl rfl)
theorem dX0_feed_10 : decode cX0_feed 10 = .ok (.if_icmp .le 9, 3) := dk_164 0 9 (dk_at dksX0_feed_0 10 rfl rfl)
theorem dX0_feed_13 : decode cX0_feed 13 = .ok (.aload_n 0, 1) := dk_42 (dk_at dksX0_feed_0 13 rfl rfl)
theorem dX0_feed_14 : decode cX0_feed 14 = .ok (.iconst 0, 1) := dk_3 (dk_at dksX0_feed_0 14 rfl rfl)
theorem dX0_feed_15 : decode cX0_feed 15 = .ok (.invokevirtual 129, 3) := dk_182 0 129 (dk_at dksX0_feed_0 15 rfl rfl)
theorem dX0_feed_18 : decode cX0_feed 18 = .ok (.ireturn, 1) := dk_172 (dk_at dksX0_feed_0 18 rfl rfl)
theorem dX0_feed_19 : decode cX0_feed 19 = .ok (.aload_n 0, 1) := dk_42 (dk_at dksX0_feed_0 19 rfl rfl)
theorem dX0_feed_20 : decode cX0_feed 20 = .ok (.iload_n 1, 1) := dk_27 (dk_at dksX0_feed_0 20 rfl rfl)
theorem dX0_feed_21 : decode cX0_feed 21 = .ok (.invokevirtual 133, 3) := dk_182 0 133 (dk_at dksX0_feed_0 21 rfl rfl)
theorem dX0_feed_24 : decode cX0_feed 24 = .ok (.aload_n 0, 1) := dk_42 (dk_at dksX0_feed_1 0 rfl rfl)
theorem dX0_feed_25 : decode cX0_feed 25 = .ok (.iload_n 2, 1) := dk_28 (dk_at dksX0_feed_1 1 rfl rfl)
theorem dX0_feed_26 : decode cX0_feed 26 = .ok (.invokevirtual 133, 3) := dk_182 0 133 (dk_at dksX0_feed_1 2 rfl rfl)
theorem dX0_feed_29 : decode cX0_feed 29 = .ok (.aload_n 0, 1) := dk_42 (dk_at dksX0_feed_1 5 rfl rfl)
theorem dX0_feed_30 : decode cX0_feed 30 = .ok (.iload_n 3, 1) := dk_29 (dk_at dksX0_feed_1 6 rfl rfl)
theorem dX0_feed_31 : decode cX0_feed 31 = .ok (.invokevirtual 133, 3) := dk_182 0 133 (dk_at dksX0_feed_1 7 rfl rfl)
theorem dX0_feed_34 : decode cX0_feed 34 = .ok (.aload_n 0, 1) := dk_42 (dk_at dksX0_feed_1 10 rfl rfl)
theorem dX0_feed_35 : decode cX0_feed 35 = .ok (.iload 4, 2) := dk_21 4 (dk_at dksX0_feed_1 11 rfl rfl)
theorem dX0_feed_37 : decode cX0_feed 37 = .ok (.invokevirtual 133, 3) := dk_182 0 133 (dk_at dksX0_feed_1 13 rfl rfl)
theorem dX0_feed_40 : decode cX0_feed 40 = .ok (.aload_n 0, 1) := dk_42 (dk_at dksX0_feed_1 16 rfl rfl)
theorem dX0_feed_41 : decode cX0_feed 41 = .ok (.iload 5, 2) := dk_21 5 (dk_at dksX0_feed_1 17 rfl rfl)
theorem dX0_feed_43 : decode cX0_feed 43 = .ok (.invokevirtual 133, 3) := dk_182 0 133 (dk_at dksX0_feed_1 19 rfl rfl)
theorem dX0_feed_46 : decode cX0_feed 46 = .ok (.aload_n 0, 1) := dk_42 (dk_at dksX0_feed_1 22 rfl rfl)
theorem dX0_feed_47 : decode cX0_feed 47 = .ok (.getfield 126, 3) := dk_180 0 126 (dk_at dksX0_feed_2 0 rfl rfl)
theorem dX0_feed_50 : decode cX0_feed 50 = .ok (.ireturn, 1) := dk_172 (dk_at dksX0_feed_2 3 rfl rfl)
abbrev cX0_refuses : ByteArray := prog_1_method_8_code
def yX0_refuses : MethodName := ⟨RX0, "refuses", "(I)I"⟩
def dkwX0_refuses_0 : List UInt8 := [42, 180, 0, 62, 27, 92, 46, 4, 96, 79, 2, 172]
abbrev dktX0_refuses_0 : List UInt8 := dkwX0_refuses_0 ++ []
theorem dksX0_refuses_0 : cX0_refuses.data.toList.drop 0 = dktX0_refuses_0 := by decide +kernel
theorem dX0_refuses_0 : decode cX0_refuses 0 = .ok (.aload_n 0, 1) := dk_42 (dk_at dksX0_refuses_0 0 rfl rfl)
theorem dX0_refuses_1 : decode cX0_refuses 1 = .ok (.getfield 62, 3) := dk_180 0 62 (dk_at dksX0_refuses_0 1 rfl rfl)
theorem dX0_refuses_4 : decode cX0_refuses 4 = .ok (.iload_n 1, 1) := dk_27 (dk_at dksX0_refuses_0 4 rfl rfl)
theorem dX0_refuses_5 : decode cX0_refuses 5 = .ok (.dup2, 1) := dk_92 (dk_at dksX0_refuses_0 5 rfl rfl)
theorem dX0_refuses_6 : decode cX0_refuses 6 = .ok (.iaload, 1) := dk_46 (dk_at dksX0_refuses_0 6 rfl rfl)
theorem dX0_refuses_7 : decode cX0_refuses 7 = .ok (.iconst 1, 1) := dk_4 (dk_at dksX0_refuses_0 7 rfl rfl)
theorem dX0_refuses_8 : decode cX0_refuses 8 = .ok (.iadd, 1) := dk_96 (dk_at dksX0_refuses_0 8 rfl rfl)
theorem dX0_refuses_9 : decode cX0_refuses 9 = .ok (.iastore, 1) := dk_79 (dk_at dksX0_refuses_0 9 rfl rfl)
theorem dX0_refuses_10 : decode cX0_refuses 10 = .ok (.iconst (-1), 1) := dk_2 (dk_at dksX0_refuses_0 10 rfl rfl)
theorem dX0_refuses_11 : decode cX0_refuses 11 = .ok (.ireturn, 1) := dk_172 (dk_at dksX0_refuses_0 11 rfl rfl)
abbrev cX0_put : ByteArray := prog_1_method_9_code
def yX0_put : MethodName := ⟨RX0, "put", "(I)V"⟩
def dkwX0_put_1 : List UInt8 := [122, 145, 84, 132, 2, 248, 167, 255, 229, 177]
abbrev dktX0_put_1 : List UInt8 := dkwX0_put_1 ++ []
def dkwX0_put_0 : List UInt8 := [16, 24, 61, 28, 155, 0, 29, 42, 180, 0, 35, 42, 89, 180, 0, 126, 90, 4, 96, 181, 0, 126, 27, 28]
abbrev dktX0_put_0 : List UInt8 := dkwX0_put_0 ++ dktX0_put_1
theorem dksX0_put_0 : cX0_put.data.toList.drop 0 = dktX0_put_0 := by decide +kernel
theorem dksX0_put_1 : cX0_put.data.toList.drop 24 = dktX0_put_1 := dk_seg dksX0_put_0 24 rfl rfl
theorem dX0_put_0 : decode cX0_put 0 = .ok (.bipush 24, 2) := dk_16 24 (dk_at dksX0_put_0 0 rfl rfl)
theorem dX0_put_2 : decode cX0_put 2 = .ok (.istore_n 2, 1) := dk_61 (dk_at dksX0_put_0 2 rfl rfl)
theorem dX0_put_3 : decode cX0_put 3 = .ok (.iload_n 2, 1) := dk_28 (dk_at dksX0_put_0 3 rfl rfl)
theorem dX0_put_4 : decode cX0_put 4 = .ok (.ifCond .lt 29, 3) := dk_155 0 29 (dk_at dksX0_put_0 4 rfl rfl)
theorem dX0_put_7 : decode cX0_put 7 = .ok (.aload_n 0, 1) := dk_42 (dk_at dksX0_put_0 7 rfl rfl)
theorem dX0_put_8 : decode cX0_put 8 = .ok (.getfield 35, 3) := dk_180 0 35 (dk_at dksX0_put_0 8 rfl rfl)
theorem dX0_put_11 : decode cX0_put 11 = .ok (.aload_n 0, 1) := dk_42 (dk_at dksX0_put_0 11 rfl rfl)
theorem dX0_put_12 : decode cX0_put 12 = .ok (.dup, 1) := dk_89 (dk_at dksX0_put_0 12 rfl rfl)
theorem dX0_put_13 : decode cX0_put 13 = .ok (.getfield 126, 3) := dk_180 0 126 (dk_at dksX0_put_0 13 rfl rfl)
theorem dX0_put_16 : decode cX0_put 16 = .ok (.dup_x1, 1) := dk_90 (dk_at dksX0_put_0 16 rfl rfl)
theorem dX0_put_17 : decode cX0_put 17 = .ok (.iconst 1, 1) := dk_4 (dk_at dksX0_put_0 17 rfl rfl)
theorem dX0_put_18 : decode cX0_put 18 = .ok (.iadd, 1) := dk_96 (dk_at dksX0_put_0 18 rfl rfl)
theorem dX0_put_19 : decode cX0_put 19 = .ok (.putfield 126, 3) := dk_181 0 126 (dk_at dksX0_put_0 19 rfl rfl)
theorem dX0_put_22 : decode cX0_put 22 = .ok (.iload_n 1, 1) := dk_27 (dk_at dksX0_put_0 22 rfl rfl)
theorem dX0_put_23 : decode cX0_put 23 = .ok (.iload_n 2, 1) := dk_28 (dk_at dksX0_put_0 23 rfl rfl)
theorem dX0_put_24 : decode cX0_put 24 = .ok (.ishr, 1) := dk_122 (dk_at dksX0_put_1 0 rfl rfl)
theorem dX0_put_25 : decode cX0_put 25 = .ok (.i2b, 1) := dk_145 (dk_at dksX0_put_1 1 rfl rfl)
theorem dX0_put_26 : decode cX0_put 26 = .ok (.bastore, 1) := dk_84 (dk_at dksX0_put_1 2 rfl rfl)
theorem dX0_put_27 : decode cX0_put 27 = .ok (.iinc 2 (-8), 3) := dk_132 2 248 (dk_at dksX0_put_1 3 rfl rfl)
theorem dX0_put_30 : decode cX0_put 30 = .ok (.goto (-27), 3) := dk_167 255 229 (dk_at dksX0_put_1 6 rfl rfl)
theorem dX0_put_33 : decode cX0_put 33 = .ok (.return_, 1) := dk_177 (dk_at dksX0_put_1 9 rfl rfl)
abbrev cX0_end : ByteArray := prog_1_method_11_code
def yX0_end : MethodName := ⟨RX0, "end", "(I)Z"⟩
def dkwX0_end_1 : List UInt8 := [3, 172, 42, 27, 181, 0, 126, 4, 172]
abbrev dktX0_end_1 : List UInt8 := dkwX0_end_1 ++ []
def dkwX0_end_0 : List UInt8 := [27, 155, 0, 11, 27, 42, 180, 0, 126, 164, 0, 17, 42, 3, 182, 0, 129, 155, 0, 7, 4, 167, 0, 4]
abbrev dktX0_end_0 : List UInt8 := dkwX0_end_0 ++ dktX0_end_1
theorem dksX0_end_0 : cX0_end.data.toList.drop 0 = dktX0_end_0 := by decide +kernel
theorem dksX0_end_1 : cX0_end.data.toList.drop 24 = dktX0_end_1 := dk_seg dksX0_end_0 24 rfl rfl
theorem dX0_end_0 : decode cX0_end 0 = .ok (.iload_n 1, 1) := dk_27 (dk_at dksX0_end_0 0 rfl rfl)
theorem dX0_end_1 : decode cX0_end 1 = .ok (.ifCond .lt 11, 3) := dk_155 0 11 (dk_at dksX0_end_0 1 rfl rfl)
theorem dX0_end_4 : decode cX0_end 4 = .ok (.iload_n 1, 1) := dk_27 (dk_at dksX0_end_0 4 rfl rfl)
theorem dX0_end_5 : decode cX0_end 5 = .ok (.aload_n 0, 1) := dk_42 (dk_at dksX0_end_0 5 rfl rfl)
theorem dX0_end_6 : decode cX0_end 6 = .ok (.getfield 126, 3) := dk_180 0 126 (dk_at dksX0_end_0 6 rfl rfl)
theorem dX0_end_9 : decode cX0_end 9 = .ok (.if_icmp .le 17, 3) := dk_164 0 17 (dk_at dksX0_end_0 9 rfl rfl)
theorem dX0_end_12 : decode cX0_end 12 = .ok (.aload_n 0, 1) := dk_42 (dk_at dksX0_end_0 12 rfl rfl)
theorem dX0_end_13 : decode cX0_end 13 = .ok (.iconst 0, 1) := dk_3 (dk_at dksX0_end_0 13 rfl rfl)
theorem dX0_end_14 : decode cX0_end 14 = .ok (.invokevirtual 129, 3) := dk_182 0 129 (dk_at dksX0_end_0 14 rfl rfl)
theorem dX0_end_17 : decode cX0_end 17 = .ok (.ifCond .lt 7, 3) := dk_155 0 7 (dk_at dksX0_end_0 17 rfl rfl)
theorem dX0_end_20 : decode cX0_end 20 = .ok (.iconst 1, 1) := dk_4 (dk_at dksX0_end_0 20 rfl rfl)
theorem dX0_end_21 : decode cX0_end 21 = .ok (.goto 4, 3) := dk_167 0 4 (dk_at dksX0_end_0 21 rfl rfl)
theorem dX0_end_24 : decode cX0_end 24 = .ok (.iconst 0, 1) := dk_3 (dk_at dksX0_end_1 0 rfl rfl)
theorem dX0_end_25 : decode cX0_end 25 = .ok (.ireturn, 1) := dk_172 (dk_at dksX0_end_1 1 rfl rfl)
theorem dX0_end_26 : decode cX0_end 26 = .ok (.aload_n 0, 1) := dk_42 (dk_at dksX0_end_1 2 rfl rfl)
theorem dX0_end_27 : decode cX0_end 27 = .ok (.iload_n 1, 1) := dk_27 (dk_at dksX0_end_1 3 rfl rfl)
theorem dX0_end_28 : decode cX0_end 28 = .ok (.putfield 126, 3) := dk_181 0 126 (dk_at dksX0_end_1 4 rfl rfl)
theorem dX0_end_31 : decode cX0_end 31 = .ok (.iconst 1, 1) := dk_4 (dk_at dksX0_end_1 7 rfl rfl)
theorem dX0_end_32 : decode cX0_end 32 = .ok (.ireturn, 1) := dk_172 (dk_at dksX0_end_1 8 rfl rfl)
abbrev cX0_town : ByteArray := prog_1_method_13_code
def yX0_town : MethodName := ⟨RX0, "town", "()I"⟩
def dkwX0_town_3 : List UInt8 := [180, 0, 31, 180, 0, 165, 172]
abbrev dktX0_town_3 : List UInt8 := dkwX0_town_3 ++ []
def dkwX0_town_2 : List UInt8 := [4, 182, 0, 129, 172, 42, 180, 0, 69, 182, 0, 156, 42, 3, 181, 0, 159, 42, 3, 181, 0, 162, 42]
abbrev dktX0_town_2 : List UInt8 := dkwX0_town_2 ++ dktX0_town_3
def dkwX0_town_1 : List UInt8 := [181, 0, 31, 167, 0, 26, 76, 42, 43, 180, 0, 150, 181, 0, 137, 42, 43, 180, 0, 153, 181, 0, 39, 42]
abbrev dktX0_town_1 : List UInt8 := dkwX0_town_1 ++ dktX0_town_2
def dkwX0_town_0 : List UInt8 := [42, 3, 181, 0, 137, 42, 2, 181, 0, 39, 42, 42, 180, 0, 48, 42, 182, 0, 140, 182, 0, 144]
abbrev dktX0_town_0 : List UInt8 := dkwX0_town_0 ++ dktX0_town_1
theorem dksX0_town_0 : cX0_town.data.toList.drop 0 = dktX0_town_0 := by decide +kernel
theorem dksX0_town_1 : cX0_town.data.toList.drop 22 = dktX0_town_1 := dk_seg dksX0_town_0 22 rfl rfl
theorem dksX0_town_2 : cX0_town.data.toList.drop 46 = dktX0_town_2 := dk_seg dksX0_town_1 24 rfl rfl
theorem dksX0_town_3 : cX0_town.data.toList.drop 69 = dktX0_town_3 := dk_seg dksX0_town_2 23 rfl rfl
theorem dX0_town_0 : decode cX0_town 0 = .ok (.aload_n 0, 1) := dk_42 (dk_at dksX0_town_0 0 rfl rfl)
theorem dX0_town_1 : decode cX0_town 1 = .ok (.iconst 0, 1) := dk_3 (dk_at dksX0_town_0 1 rfl rfl)
theorem dX0_town_2 : decode cX0_town 2 = .ok (.putfield 137, 3) := dk_181 0 137 (dk_at dksX0_town_0 2 rfl rfl)
theorem dX0_town_5 : decode cX0_town 5 = .ok (.aload_n 0, 1) := dk_42 (dk_at dksX0_town_0 5 rfl rfl)
theorem dX0_town_6 : decode cX0_town 6 = .ok (.iconst (-1), 1) := dk_2 (dk_at dksX0_town_0 6 rfl rfl)
theorem dX0_town_7 : decode cX0_town 7 = .ok (.putfield 39, 3) := dk_181 0 39 (dk_at dksX0_town_0 7 rfl rfl)
theorem dX0_town_10 : decode cX0_town 10 = .ok (.aload_n 0, 1) := dk_42 (dk_at dksX0_town_0 10 rfl rfl)
theorem dX0_town_11 : decode cX0_town 11 = .ok (.aload_n 0, 1) := dk_42 (dk_at dksX0_town_0 11 rfl rfl)
theorem dX0_town_12 : decode cX0_town 12 = .ok (.getfield 48, 3) := dk_180 0 48 (dk_at dksX0_town_0 12 rfl rfl)
theorem dX0_town_15 : decode cX0_town 15 = .ok (.aload_n 0, 1) := dk_42 (dk_at dksX0_town_0 15 rfl rfl)
theorem dX0_town_16 : decode cX0_town 16 = .ok (.invokevirtual 140, 3) := dk_182 0 140 (dk_at dksX0_town_0 16 rfl rfl)
theorem dX0_town_19 : decode cX0_town 19 = .ok (.invokevirtual 144, 3) := dk_182 0 144 (dk_at dksX0_town_0 19 rfl rfl)
theorem dX0_town_22 : decode cX0_town 22 = .ok (.putfield 31, 3) := dk_181 0 31 (dk_at dksX0_town_1 0 rfl rfl)
theorem dX0_town_25 : decode cX0_town 25 = .ok (.goto 26, 3) := dk_167 0 26 (dk_at dksX0_town_1 3 rfl rfl)
theorem dX0_town_28 : decode cX0_town 28 = .ok (.astore_n 1, 1) := dk_76 (dk_at dksX0_town_1 6 rfl rfl)
theorem dX0_town_29 : decode cX0_town 29 = .ok (.aload_n 0, 1) := dk_42 (dk_at dksX0_town_1 7 rfl rfl)
theorem dX0_town_30 : decode cX0_town 30 = .ok (.aload_n 1, 1) := dk_43 (dk_at dksX0_town_1 8 rfl rfl)
theorem dX0_town_31 : decode cX0_town 31 = .ok (.getfield 150, 3) := dk_180 0 150 (dk_at dksX0_town_1 9 rfl rfl)
theorem dX0_town_34 : decode cX0_town 34 = .ok (.putfield 137, 3) := dk_181 0 137 (dk_at dksX0_town_1 12 rfl rfl)
theorem dX0_town_37 : decode cX0_town 37 = .ok (.aload_n 0, 1) := dk_42 (dk_at dksX0_town_1 15 rfl rfl)
theorem dX0_town_38 : decode cX0_town 38 = .ok (.aload_n 1, 1) := dk_43 (dk_at dksX0_town_1 16 rfl rfl)
theorem dX0_town_39 : decode cX0_town 39 = .ok (.getfield 153, 3) := dk_180 0 153 (dk_at dksX0_town_1 17 rfl rfl)
theorem dX0_town_42 : decode cX0_town 42 = .ok (.putfield 39, 3) := dk_181 0 39 (dk_at dksX0_town_1 20 rfl rfl)
theorem dX0_town_45 : decode cX0_town 45 = .ok (.aload_n 0, 1) := dk_42 (dk_at dksX0_town_1 23 rfl rfl)
theorem dX0_town_46 : decode cX0_town 46 = .ok (.iconst 1, 1) := dk_4 (dk_at dksX0_town_2 0 rfl rfl)
theorem dX0_town_47 : decode cX0_town 47 = .ok (.invokevirtual 129, 3) := dk_182 0 129 (dk_at dksX0_town_2 1 rfl rfl)
theorem dX0_town_50 : decode cX0_town 50 = .ok (.ireturn, 1) := dk_172 (dk_at dksX0_town_2 4 rfl rfl)
theorem dX0_town_51 : decode cX0_town 51 = .ok (.aload_n 0, 1) := dk_42 (dk_at dksX0_town_2 5 rfl rfl)
theorem dX0_town_52 : decode cX0_town 52 = .ok (.getfield 69, 3) := dk_180 0 69 (dk_at dksX0_town_2 6 rfl rfl)
theorem dX0_town_55 : decode cX0_town 55 = .ok (.invokevirtual 156, 3) := dk_182 0 156 (dk_at dksX0_town_2 9 rfl rfl)
theorem dX0_town_58 : decode cX0_town 58 = .ok (.aload_n 0, 1) := dk_42 (dk_at dksX0_town_2 12 rfl rfl)
theorem dX0_town_59 : decode cX0_town 59 = .ok (.iconst 0, 1) := dk_3 (dk_at dksX0_town_2 13 rfl rfl)
theorem dX0_town_60 : decode cX0_town 60 = .ok (.putfield 159, 3) := dk_181 0 159 (dk_at dksX0_town_2 14 rfl rfl)
theorem dX0_town_63 : decode cX0_town 63 = .ok (.aload_n 0, 1) := dk_42 (dk_at dksX0_town_2 17 rfl rfl)
theorem dX0_town_64 : decode cX0_town 64 = .ok (.iconst 0, 1) := dk_3 (dk_at dksX0_town_2 18 rfl rfl)
theorem dX0_town_65 : decode cX0_town 65 = .ok (.putfield 162, 3) := dk_181 0 162 (dk_at dksX0_town_2 19 rfl rfl)
theorem dX0_town_68 : decode cX0_town 68 = .ok (.aload_n 0, 1) := dk_42 (dk_at dksX0_town_2 22 rfl rfl)
theorem dX0_town_69 : decode cX0_town 69 = .ok (.getfield 31, 3) := dk_180 0 31 (dk_at dksX0_town_3 0 rfl rfl)
theorem dX0_town_72 : decode cX0_town 72 = .ok (.getfield 165, 3) := dk_180 0 165 (dk_at dksX0_town_3 3 rfl rfl)
theorem dX0_town_75 : decode cX0_town 75 = .ok (.ireturn, 1) := dk_172 (dk_at dksX0_town_3 6 rfl rfl)
abbrev cX0_taken : ByteArray := prog_1_method_12_code
def yX0_taken : MethodName := ⟨RX0, "taken", "()I"⟩
def dkwX0_taken_0 : List UInt8 := [42, 180, 0, 126, 60, 42, 3, 181, 0, 126, 27, 172]
abbrev dktX0_taken_0 : List UInt8 := dkwX0_taken_0 ++ []
theorem dksX0_taken_0 : cX0_taken.data.toList.drop 0 = dktX0_taken_0 := by decide +kernel
theorem dX0_taken_0 : decode cX0_taken 0 = .ok (.aload_n 0, 1) := dk_42 (dk_at dksX0_taken_0 0 rfl rfl)
theorem dX0_taken_1 : decode cX0_taken 1 = .ok (.getfield 126, 3) := dk_180 0 126 (dk_at dksX0_taken_0 1 rfl rfl)
theorem dX0_taken_4 : decode cX0_taken 4 = .ok (.istore_n 1, 1) := dk_60 (dk_at dksX0_taken_0 4 rfl rfl)
theorem dX0_taken_5 : decode cX0_taken 5 = .ok (.aload_n 0, 1) := dk_42 (dk_at dksX0_taken_0 5 rfl rfl)
theorem dX0_taken_6 : decode cX0_taken 6 = .ok (.iconst 0, 1) := dk_3 (dk_at dksX0_taken_0 6 rfl rfl)
theorem dX0_taken_7 : decode cX0_taken 7 = .ok (.putfield 126, 3) := dk_181 0 126 (dk_at dksX0_taken_0 7 rfl rfl)
theorem dX0_taken_10 : decode cX0_taken 10 = .ok (.iload_n 1, 1) := dk_27 (dk_at dksX0_taken_0 10 rfl rfl)
theorem dX0_taken_11 : decode cX0_taken 11 = .ok (.ireturn, 1) := dk_172 (dk_at dksX0_taken_0 11 rfl rfl)
abbrev cX0_isLetter : ByteArray := prog_1_method_4_code
def yX0_isLetter : MethodName := ⟨RX0, "isLetter", "(I)Z"⟩
def dkwX0_isLetter_0 : List UInt8 := [26, 16, 97, 161, 0, 13, 26, 16, 122, 163, 0, 7, 4, 167, 0, 4, 3, 172]
abbrev dktX0_isLetter_0 : List UInt8 := dkwX0_isLetter_0 ++ []
theorem dksX0_isLetter_0 : cX0_isLetter.data.toList.drop 0 = dktX0_isLetter_0 := by decide +kernel
theorem dX0_isLetter_0 : decode cX0_isLetter 0 = .ok (.iload_n 0, 1) := dk_26 (dk_at dksX0_isLetter_0 0 rfl rfl)
theorem dX0_isLetter_1 : decode cX0_isLetter 1 = .ok (.bipush 97, 2) := dk_16 97 (dk_at dksX0_isLetter_0 1 rfl rfl)
theorem dX0_isLetter_3 : decode cX0_isLetter 3 = .ok (.if_icmp .lt 13, 3) := dk_161 0 13 (dk_at dksX0_isLetter_0 3 rfl rfl)
theorem dX0_isLetter_6 : decode cX0_isLetter 6 = .ok (.iload_n 0, 1) := dk_26 (dk_at dksX0_isLetter_0 6 rfl rfl)
theorem dX0_isLetter_7 : decode cX0_isLetter 7 = .ok (.bipush 122, 2) := dk_16 122 (dk_at dksX0_isLetter_0 7 rfl rfl)
theorem dX0_isLetter_9 : decode cX0_isLetter 9 = .ok (.if_icmp .gt 7, 3) := dk_163 0 7 (dk_at dksX0_isLetter_0 9 rfl rfl)
theorem dX0_isLetter_12 : decode cX0_isLetter 12 = .ok (.iconst 1, 1) := dk_4 (dk_at dksX0_isLetter_0 12 rfl rfl)
theorem dX0_isLetter_13 : decode cX0_isLetter 13 = .ok (.goto 4, 3) := dk_167 0 4 (dk_at dksX0_isLetter_0 13 rfl rfl)
theorem dX0_isLetter_16 : decode cX0_isLetter 16 = .ok (.iconst 0, 1) := dk_3 (dk_at dksX0_isLetter_0 16 rfl rfl)
theorem dX0_isLetter_17 : decode cX0_isLetter 17 = .ok (.ireturn, 1) := dk_172 (dk_at dksX0_isLetter_0 17 rfl rfl)
abbrev cX0_isDigit : ByteArray := prog_1_method_5_code
def yX0_isDigit : MethodName := ⟨RX0, "isDigit", "(I)Z"⟩
def dkwX0_isDigit_0 : List UInt8 := [26, 16, 48, 161, 0, 13, 26, 16, 57, 163, 0, 7, 4, 167, 0, 4, 3, 172]
abbrev dktX0_isDigit_0 : List UInt8 := dkwX0_isDigit_0 ++ []
theorem dksX0_isDigit_0 : cX0_isDigit.data.toList.drop 0 = dktX0_isDigit_0 := by decide +kernel
theorem dX0_isDigit_0 : decode cX0_isDigit 0 = .ok (.iload_n 0, 1) := dk_26 (dk_at dksX0_isDigit_0 0 rfl rfl)
theorem dX0_isDigit_1 : decode cX0_isDigit 1 = .ok (.bipush 48, 2) := dk_16 48 (dk_at dksX0_isDigit_0 1 rfl rfl)
theorem dX0_isDigit_3 : decode cX0_isDigit 3 = .ok (.if_icmp .lt 13, 3) := dk_161 0 13 (dk_at dksX0_isDigit_0 3 rfl rfl)
theorem dX0_isDigit_6 : decode cX0_isDigit 6 = .ok (.iload_n 0, 1) := dk_26 (dk_at dksX0_isDigit_0 6 rfl rfl)
theorem dX0_isDigit_7 : decode cX0_isDigit 7 = .ok (.bipush 57, 2) := dk_16 57 (dk_at dksX0_isDigit_0 7 rfl rfl)
theorem dX0_isDigit_9 : decode cX0_isDigit 9 = .ok (.if_icmp .gt 7, 3) := dk_163 0 7 (dk_at dksX0_isDigit_0 9 rfl rfl)
theorem dX0_isDigit_12 : decode cX0_isDigit 12 = .ok (.iconst 1, 1) := dk_4 (dk_at dksX0_isDigit_0 12 rfl rfl)
theorem dX0_isDigit_13 : decode cX0_isDigit 13 = .ok (.goto 4, 3) := dk_167 0 4 (dk_at dksX0_isDigit_0 13 rfl rfl)
theorem dX0_isDigit_16 : decode cX0_isDigit 16 = .ok (.iconst 0, 1) := dk_3 (dk_at dksX0_isDigit_0 16 rfl rfl)
theorem dX0_isDigit_17 : decode cX0_isDigit 17 = .ok (.ireturn, 1) := dk_172 (dk_at dksX0_isDigit_0 17 rfl rfl)
abbrev cX0_find : ByteArray := prog_1_method_6_code
def yX0_find : MethodName := ⟨RX0, "find", "(Ljava/lang/String;[Ljava/lang/String;)I"⟩
def dkwX0_find_1 : List UInt8 := [167, 255, 235, 2, 172]
abbrev dktX0_find_1 : List UInt8 := dkwX0_find_1 ++ []
def dkwX0_find_0 : List UInt8 := [3, 61, 28, 43, 190, 162, 0, 21, 43, 28, 50, 42, 182, 0, 16, 153, 0, 5, 28, 172, 132, 2, 1]
abbrev dktX0_find_0 : List UInt8 := dkwX0_find_0 ++ dktX0_find_1
theorem dksX0_find_0 : cX0_find.data.toList.drop 0 = dktX0_find_0 := by decide +kernel
theorem dksX0_find_1 : cX0_find.data.toList.drop 23 = dktX0_find_1 := dk_seg dksX0_find_0 23 rfl rfl
theorem dX0_find_0 : decode cX0_find 0 = .ok (.iconst 0, 1) := dk_3 (dk_at dksX0_find_0 0 rfl rfl)
theorem dX0_find_1 : decode cX0_find 1 = .ok (.istore_n 2, 1) := dk_61 (dk_at dksX0_find_0 1 rfl rfl)
theorem dX0_find_2 : decode cX0_find 2 = .ok (.iload_n 2, 1) := dk_28 (dk_at dksX0_find_0 2 rfl rfl)
theorem dX0_find_3 : decode cX0_find 3 = .ok (.aload_n 1, 1) := dk_43 (dk_at dksX0_find_0 3 rfl rfl)
theorem dX0_find_4 : decode cX0_find 4 = .ok (.arraylength, 1) := dk_190 (dk_at dksX0_find_0 4 rfl rfl)
theorem dX0_find_5 : decode cX0_find 5 = .ok (.if_icmp .ge 21, 3) := dk_162 0 21 (dk_at dksX0_find_0 5 rfl rfl)
theorem dX0_find_8 : decode cX0_find 8 = .ok (.aload_n 1, 1) := dk_43 (dk_at dksX0_find_0 8 rfl rfl)
theorem dX0_find_9 : decode cX0_find 9 = .ok (.iload_n 2, 1) := dk_28 (dk_at dksX0_find_0 9 rfl rfl)
theorem dX0_find_10 : decode cX0_find 10 = .ok (.aaload, 1) := dk_50 (dk_at dksX0_find_0 10 rfl rfl)
theorem dX0_find_11 : decode cX0_find 11 = .ok (.aload_n 0, 1) := dk_42 (dk_at dksX0_find_0 11 rfl rfl)
theorem dX0_find_12 : decode cX0_find 12 = .ok (.invokevirtual 16, 3) := dk_182 0 16 (dk_at dksX0_find_0 12 rfl rfl)
theorem dX0_find_15 : decode cX0_find 15 = .ok (.ifCond .eq 5, 3) := dk_153 0 5 (dk_at dksX0_find_0 15 rfl rfl)
theorem dX0_find_18 : decode cX0_find 18 = .ok (.iload_n 2, 1) := dk_28 (dk_at dksX0_find_0 18 rfl rfl)
theorem dX0_find_19 : decode cX0_find 19 = .ok (.ireturn, 1) := dk_172 (dk_at dksX0_find_0 19 rfl rfl)
theorem dX0_find_20 : decode cX0_find 20 = .ok (.iinc 2 1, 3) := dk_132 2 1 (dk_at dksX0_find_0 20 rfl rfl)
theorem dX0_find_23 : decode cX0_find 23 = .ok (.goto (-21), 3) := dk_167 255 235 (dk_at dksX0_find_1 0 rfl rfl)
theorem dX0_find_26 : decode cX0_find 26 = .ok (.iconst (-1), 1) := dk_2 (dk_at dksX0_find_1 3 rfl rfl)
theorem dX0_find_27 : decode cX0_find 27 = .ok (.ireturn, 1) := dk_172 (dk_at dksX0_find_1 4 rfl rfl)
abbrev cX0_is : ByteArray := prog_1_method_1_code
def yX0_is : MethodName := ⟨RX0, "is", "(III)Z"⟩
def dkwX0_is_0 : List UInt8 := [26, 27, 161, 0, 12, 26, 28, 163, 0, 7, 4, 167, 0, 4, 3, 172]
abbrev dktX0_is_0 : List UInt8 := dkwX0_is_0 ++ []
theorem dksX0_is_0 : cX0_is.data.toList.drop 0 = dktX0_is_0 := by decide +kernel
theorem dX0_is_0 : decode cX0_is 0 = .ok (.iload_n 0, 1) := dk_26 (dk_at dksX0_is_0 0 rfl rfl)
theorem dX0_is_1 : decode cX0_is 1 = .ok (.iload_n 1, 1) := dk_27 (dk_at dksX0_is_0 1 rfl rfl)
theorem dX0_is_2 : decode cX0_is 2 = .ok (.if_icmp .lt 12, 3) := dk_161 0 12 (dk_at dksX0_is_0 2 rfl rfl)
theorem dX0_is_5 : decode cX0_is 5 = .ok (.iload_n 0, 1) := dk_26 (dk_at dksX0_is_0 5 rfl rfl)
theorem dX0_is_6 : decode cX0_is 6 = .ok (.iload_n 2, 1) := dk_28 (dk_at dksX0_is_0 6 rfl rfl)
theorem dX0_is_7 : decode cX0_is 7 = .ok (.if_icmp .gt 7, 3) := dk_163 0 7 (dk_at dksX0_is_0 7 rfl rfl)
theorem dX0_is_10 : decode cX0_is 10 = .ok (.iconst 1, 1) := dk_4 (dk_at dksX0_is_0 10 rfl rfl)
theorem dX0_is_11 : decode cX0_is 11 = .ok (.goto 4, 3) := dk_167 0 4 (dk_at dksX0_is_0 11 rfl rfl)
theorem dX0_is_14 : decode cX0_is 14 = .ok (.iconst 0, 1) := dk_3 (dk_at dksX0_is_0 14 rfl rfl)
theorem dX0_is_15 : decode cX0_is 15 = .ok (.ireturn, 1) := dk_172 (dk_at dksX0_is_0 15 rfl rfl)
abbrev cX0_streetMany : ByteArray := prog_1_method_16_code
def yX0_streetMany : MethodName := ⟨RX0, "streetMany", "()I"⟩
def dkwX0_streetMany_0 : List UInt8 := [42, 180, 0, 31, 180, 0, 177, 185, 0, 172, 1, 0, 172]
abbrev dktX0_streetMany_0 : List UInt8 := dkwX0_streetMany_0 ++ []
theorem dksX0_streetMany_0 : cX0_streetMany.data.toList.drop 0 = dktX0_streetMany_0 := by decide +kernel
theorem dX0_streetMany_0 : decode cX0_streetMany 0 = .ok (.aload_n 0, 1) := dk_42 (dk_at dksX0_streetMany_0 0 rfl rfl)
theorem dX0_streetMany_1 : decode cX0_streetMany 1 = .ok (.getfield 31, 3) := dk_180 0 31 (dk_at dksX0_streetMany_0 1 rfl rfl)
theorem dX0_streetMany_4 : decode cX0_streetMany 4 = .ok (.getfield 177, 3) := dk_180 0 177 (dk_at dksX0_streetMany_0 4 rfl rfl)
theorem dX0_streetMany_7 : decode cX0_streetMany 7 = .ok (.invokeinterface 172 1, 5) := by decide +kernel
theorem dX0_streetMany_12 : decode cX0_streetMany 12 = .ok (.ireturn, 1) := dk_172 (dk_at dksX0_streetMany_0 12 rfl rfl)
abbrev cX0_walkerMany : ByteArray := prog_1_method_17_code
def yX0_walkerMany : MethodName := ⟨RX0, "walkerMany", "()I"⟩
def dkwX0_walkerMany_0 : List UInt8 := [42, 180, 0, 31, 180, 0, 180, 185, 0, 172, 1, 0, 172]
abbrev dktX0_walkerMany_0 : List UInt8 := dkwX0_walkerMany_0 ++ []
theorem dksX0_walkerMany_0 : cX0_walkerMany.data.toList.drop 0 = dktX0_walkerMany_0 := by decide +kernel
theorem dX0_walkerMany_0 : decode cX0_walkerMany 0 = .ok (.aload_n 0, 1) := dk_42 (dk_at dksX0_walkerMany_0 0 rfl rfl)
theorem dX0_walkerMany_1 : decode cX0_walkerMany 1 = .ok (.getfield 31, 3) := dk_180 0 31 (dk_at dksX0_walkerMany_0 1 rfl rfl)
theorem dX0_walkerMany_4 : decode cX0_walkerMany 4 = .ok (.getfield 180, 3) := dk_180 0 180 (dk_at dksX0_walkerMany_0 4 rfl rfl)
theorem dX0_walkerMany_7 : decode cX0_walkerMany 7 = .ok (.invokeinterface 172 1, 5) := by decide +kernel
theorem dX0_walkerMany_12 : decode cX0_walkerMany 12 = .ok (.ireturn, 1) := dk_172 (dk_at dksX0_walkerMany_0 12 rfl rfl)
abbrev cX0_fault : ByteArray := prog_1_method_14_code
def yX0_fault : MethodName := ⟨RX0, "fault", "(I)I"⟩
def dkwX0_fault_1 : List UInt8 := [172]
abbrev dktX0_fault_1 : List UInt8 := dkwX0_fault_1 ++ []
def dkwX0_fault_0 : List UInt8 := [27, 154, 0, 10, 42, 180, 0, 137, 167, 0, 16, 27, 4, 160, 0, 10, 42, 180, 0, 39, 167, 0, 4, 2]
abbrev dktX0_fault_0 : List UInt8 := dkwX0_fault_0 ++ dktX0_fault_1
theorem dksX0_fault_0 : cX0_fault.data.toList.drop 0 = dktX0_fault_0 := by decide +kernel
theorem dksX0_fault_1 : cX0_fault.data.toList.drop 24 = dktX0_fault_1 := dk_seg dksX0_fault_0 24 rfl rfl
theorem dX0_fault_0 : decode cX0_fault 0 = .ok (.iload_n 1, 1) := dk_27 (dk_at dksX0_fault_0 0 rfl rfl)
theorem dX0_fault_1 : decode cX0_fault 1 = .ok (.ifCond .ne 10, 3) := dk_154 0 10 (dk_at dksX0_fault_0 1 rfl rfl)
theorem dX0_fault_4 : decode cX0_fault 4 = .ok (.aload_n 0, 1) := dk_42 (dk_at dksX0_fault_0 4 rfl rfl)
theorem dX0_fault_5 : decode cX0_fault 5 = .ok (.getfield 137, 3) := dk_180 0 137 (dk_at dksX0_fault_0 5 rfl rfl)
theorem dX0_fault_8 : decode cX0_fault 8 = .ok (.goto 16, 3) := dk_167 0 16 (dk_at dksX0_fault_0 8 rfl rfl)
theorem dX0_fault_11 : decode cX0_fault 11 = .ok (.iload_n 1, 1) := dk_27 (dk_at dksX0_fault_0 11 rfl rfl)
theorem dX0_fault_12 : decode cX0_fault 12 = .ok (.iconst 1, 1) := dk_4 (dk_at dksX0_fault_0 12 rfl rfl)
theorem dX0_fault_13 : decode cX0_fault 13 = .ok (.if_icmp .ne 10, 3) := dk_160 0 10 (dk_at dksX0_fault_0 13 rfl rfl)
theorem dX0_fault_16 : decode cX0_fault 16 = .ok (.aload_n 0, 1) := dk_42 (dk_at dksX0_fault_0 16 rfl rfl)
theorem dX0_fault_17 : decode cX0_fault 17 = .ok (.getfield 39, 3) := dk_180 0 39 (dk_at dksX0_fault_0 17 rfl rfl)
theorem dX0_fault_20 : decode cX0_fault 20 = .ok (.goto 4, 3) := dk_167 0 4 (dk_at dksX0_fault_0 20 rfl rfl)
theorem dX0_fault_23 : decode cX0_fault 23 = .ok (.iconst (-1), 1) := dk_2 (dk_at dksX0_fault_0 23 rfl rfl)
theorem dX0_fault_24 : decode cX0_fault 24 = .ok (.ireturn, 1) := dk_172 (dk_at dksX0_fault_1 0 rfl rfl)
abbrev cX0_width : ByteArray := prog_1_method_27_code
def yX0_width : MethodName := ⟨RX0, "width", "(II)I"⟩
def dkwX0_width_1 : List UInt8 := [167, 0, 4, 2, 172]
abbrev dktX0_width_1 : List UInt8 := dkwX0_width_1 ++ []
def dkwX0_width_0 : List UInt8 := [42, 27, 182, 0, 244, 153, 0, 22, 28, 3, 18, 248, 184, 0, 192, 153, 0, 12, 42, 27, 28, 182, 0, 231]
abbrev dktX0_width_0 : List UInt8 := dkwX0_width_0 ++ dktX0_width_1
theorem dksX0_width_0 : cX0_width.data.toList.drop 0 = dktX0_width_0 := by decide +kernel
theorem dksX0_width_1 : cX0_width.data.toList.drop 24 = dktX0_width_1 := dk_seg dksX0_width_0 24 rfl rfl
theorem dX0_width_0 : decode cX0_width 0 = .ok (.aload_n 0, 1) := dk_42 (dk_at dksX0_width_0 0 rfl rfl)
theorem dX0_width_1 : decode cX0_width 1 = .ok (.iload_n 1, 1) := dk_27 (dk_at dksX0_width_0 1 rfl rfl)
theorem dX0_width_2 : decode cX0_width 2 = .ok (.invokevirtual 244, 3) := dk_182 0 244 (dk_at dksX0_width_0 2 rfl rfl)
theorem dX0_width_5 : decode cX0_width 5 = .ok (.ifCond .eq 22, 3) := dk_153 0 22 (dk_at dksX0_width_0 5 rfl rfl)
theorem dX0_width_8 : decode cX0_width 8 = .ok (.iload_n 2, 1) := dk_28 (dk_at dksX0_width_0 8 rfl rfl)
theorem dX0_width_9 : decode cX0_width 9 = .ok (.iconst 0, 1) := dk_3 (dk_at dksX0_width_0 9 rfl rfl)
theorem dX0_width_10 : decode cX0_width 10 = .ok (.ldc 248, 2) := dk_18 248 (dk_at dksX0_width_0 10 rfl rfl)
theorem dX0_width_12 : decode cX0_width 12 = .ok (.invokestatic 192, 3) := dk_184 0 192 (dk_at dksX0_width_0 12 rfl rfl)
theorem dX0_width_15 : decode cX0_width 15 = .ok (.ifCond .eq 12, 3) := dk_153 0 12 (dk_at dksX0_width_0 15 rfl rfl)
theorem dX0_width_18 : decode cX0_width 18 = .ok (.aload_n 0, 1) := dk_42 (dk_at dksX0_width_0 18 rfl rfl)
theorem dX0_width_19 : decode cX0_width 19 = .ok (.iload_n 1, 1) := dk_27 (dk_at dksX0_width_0 19 rfl rfl)
theorem dX0_width_20 : decode cX0_width 20 = .ok (.iload_n 2, 1) := dk_28 (dk_at dksX0_width_0 20 rfl rfl)
theorem dX0_width_21 : decode cX0_width 21 = .ok (.invokevirtual 231, 3) := dk_182 0 231 (dk_at dksX0_width_0 21 rfl rfl)
theorem dX0_width_24 : decode cX0_width 24 = .ok (.goto 4, 3) := dk_167 0 4 (dk_at dksX0_width_1 0 rfl rfl)
theorem dX0_width_27 : decode cX0_width 27 = .ok (.iconst (-1), 1) := dk_2 (dk_at dksX0_width_1 3 rfl rfl)
theorem dX0_width_28 : decode cX0_width 28 = .ok (.ireturn, 1) := dk_172 (dk_at dksX0_width_1 4 rfl rfl)
abbrev cX0_isStreet : ByteArray := prog_1_method_19_code
def yX0_isStreet : MethodName := ⟨RX0, "isStreet", "(I)Z"⟩
def dkwX0_isStreet_0 : List UInt8 := [27, 155, 0, 15, 27, 42, 182, 0, 186, 162, 0, 7, 4, 167, 0, 4, 3, 172]
abbrev dktX0_isStreet_0 : List UInt8 := dkwX0_isStreet_0 ++ []
theorem dksX0_isStreet_0 : cX0_isStreet.data.toList.drop 0 = dktX0_isStreet_0 := by decide +kernel
theorem dX0_isStreet_0 : decode cX0_isStreet 0 = .ok (.iload_n 1, 1) := dk_27 (dk_at dksX0_isStreet_0 0 rfl rfl)
theorem dX0_isStreet_1 : decode cX0_isStreet 1 = .ok (.ifCond .lt 15, 3) := dk_155 0 15 (dk_at dksX0_isStreet_0 1 rfl rfl)
theorem dX0_isStreet_4 : decode cX0_isStreet 4 = .ok (.iload_n 1, 1) := dk_27 (dk_at dksX0_isStreet_0 4 rfl rfl)
theorem dX0_isStreet_5 : decode cX0_isStreet 5 = .ok (.aload_n 0, 1) := dk_42 (dk_at dksX0_isStreet_0 5 rfl rfl)
theorem dX0_isStreet_6 : decode cX0_isStreet 6 = .ok (.invokevirtual 186, 3) := dk_182 0 186 (dk_at dksX0_isStreet_0 6 rfl rfl)
theorem dX0_isStreet_9 : decode cX0_isStreet 9 = .ok (.if_icmp .ge 7, 3) := dk_162 0 7 (dk_at dksX0_isStreet_0 9 rfl rfl)
theorem dX0_isStreet_12 : decode cX0_isStreet 12 = .ok (.iconst 1, 1) := dk_4 (dk_at dksX0_isStreet_0 12 rfl rfl)
theorem dX0_isStreet_13 : decode cX0_isStreet 13 = .ok (.goto 4, 3) := dk_167 0 4 (dk_at dksX0_isStreet_0 13 rfl rfl)
theorem dX0_isStreet_16 : decode cX0_isStreet 16 = .ok (.iconst 0, 1) := dk_3 (dk_at dksX0_isStreet_0 16 rfl rfl)
theorem dX0_isStreet_17 : decode cX0_isStreet 17 = .ok (.ireturn, 1) := dk_172 (dk_at dksX0_isStreet_0 17 rfl rfl)
abbrev cX0_widthIn : ByteArray := prog_1_method_24_code
def yX0_widthIn : MethodName := ⟨RX0, "widthIn", "(II)I"⟩
def dkwX0_widthIn_0 : List UInt8 := [42, 27, 42, 180, 0, 69, 180, 0, 225, 27, 46, 28, 182, 0, 228, 172]
abbrev dktX0_widthIn_0 : List UInt8 := dkwX0_widthIn_0 ++ []
theorem dksX0_widthIn_0 : cX0_widthIn.data.toList.drop 0 = dktX0_widthIn_0 := by decide +kernel
theorem dX0_widthIn_0 : decode cX0_widthIn 0 = .ok (.aload_n 0, 1) := dk_42 (dk_at dksX0_widthIn_0 0 rfl rfl)
theorem dX0_widthIn_1 : decode cX0_widthIn 1 = .ok (.iload_n 1, 1) := dk_27 (dk_at dksX0_widthIn_0 1 rfl rfl)
theorem dX0_widthIn_2 : decode cX0_widthIn 2 = .ok (.aload_n 0, 1) := dk_42 (dk_at dksX0_widthIn_0 2 rfl rfl)
theorem dX0_widthIn_3 : decode cX0_widthIn 3 = .ok (.getfield 69, 3) := dk_180 0 69 (dk_at dksX0_widthIn_0 3 rfl rfl)
theorem dX0_widthIn_6 : decode cX0_widthIn 6 = .ok (.getfield 225, 3) := dk_180 0 225 (dk_at dksX0_widthIn_0 6 rfl rfl)
theorem dX0_widthIn_9 : decode cX0_widthIn 9 = .ok (.iload_n 1, 1) := dk_27 (dk_at dksX0_widthIn_0 9 rfl rfl)
theorem dX0_widthIn_10 : decode cX0_widthIn 10 = .ok (.iaload, 1) := dk_46 (dk_at dksX0_widthIn_0 10 rfl rfl)
theorem dX0_widthIn_11 : decode cX0_widthIn 11 = .ok (.iload_n 2, 1) := dk_28 (dk_at dksX0_widthIn_0 11 rfl rfl)
theorem dX0_widthIn_12 : decode cX0_widthIn 12 = .ok (.invokevirtual 228, 3) := dk_182 0 228 (dk_at dksX0_widthIn_0 12 rfl rfl)
theorem dX0_widthIn_15 : decode cX0_widthIn 15 = .ok (.ireturn, 1) := dk_172 (dk_at dksX0_widthIn_0 15 rfl rfl)
abbrev cX0_widthBy : ByteArray := prog_1_method_23_code
def yX0_widthBy : MethodName := ⟨RX0, "widthBy", "(III)I"⟩
def dkwX0_widthBy_4 : List UInt8 := [136, 172]
abbrev dktX0_widthBy_4 : List UInt8 := dkwX0_widthBy_4 ++ []
def dkwX0_widthBy_3 : List UInt8 := [42, 180, 0, 31, 27, 182, 0, 196, 180, 0, 215, 42, 180, 0, 59, 182, 0, 219, 184, 0, 7, 184, 0, 13]
abbrev dktX0_widthBy_3 : List UInt8 := dkwX0_widthBy_3 ++ dktX0_widthBy_4
def dkwX0_widthBy_2 : List UInt8 := [180, 0, 59, 180, 0, 205, 7, 42, 180, 0, 31, 27, 182, 0, 196, 180, 0, 200, 133, 80, 9, 20, 0, 213]
abbrev dktX0_widthBy_2 : List UInt8 := dkwX0_widthBy_2 ++ dktX0_widthBy_3
def dkwX0_widthBy_1 : List UInt8 := [16, 24, 108, 133, 80, 42, 180, 0, 59, 180, 0, 205, 6, 42, 27, 28, 29, 182, 0, 209, 133, 80, 42]
abbrev dktX0_widthBy_1 : List UInt8 := dkwX0_widthBy_1 ++ dktX0_widthBy_2
def dkwX0_widthBy_0 : List UInt8 := [42, 180, 0, 59, 180, 0, 205, 4, 29, 16, 24, 112, 133, 80, 42, 180, 0, 59, 180, 0, 205, 5, 29]
abbrev dktX0_widthBy_0 : List UInt8 := dkwX0_widthBy_0 ++ dktX0_widthBy_1
theorem dksX0_widthBy_0 : cX0_widthBy.data.toList.drop 0 = dktX0_widthBy_0 := by decide +kernel
theorem dksX0_widthBy_1 : cX0_widthBy.data.toList.drop 23 = dktX0_widthBy_1 := dk_seg dksX0_widthBy_0 23 rfl rfl
theorem dksX0_widthBy_2 : cX0_widthBy.data.toList.drop 46 = dktX0_widthBy_2 := dk_seg dksX0_widthBy_1 23 rfl rfl
theorem dksX0_widthBy_3 : cX0_widthBy.data.toList.drop 70 = dktX0_widthBy_3 := dk_seg dksX0_widthBy_2 24 rfl rfl
theorem dksX0_widthBy_4 : cX0_widthBy.data.toList.drop 94 = dktX0_widthBy_4 := dk_seg dksX0_widthBy_3 24 rfl rfl
theorem dX0_widthBy_0 : decode cX0_widthBy 0 = .ok (.aload_n 0, 1) := dk_42 (dk_at dksX0_widthBy_0 0 rfl rfl)
theorem dX0_widthBy_1 : decode cX0_widthBy 1 = .ok (.getfield 59, 3) := dk_180 0 59 (dk_at dksX0_widthBy_0 1 rfl rfl)
theorem dX0_widthBy_4 : decode cX0_widthBy 4 = .ok (.getfield 205, 3) := dk_180 0 205 (dk_at dksX0_widthBy_0 4 rfl rfl)
theorem dX0_widthBy_7 : decode cX0_widthBy 7 = .ok (.iconst 1, 1) := dk_4 (dk_at dksX0_widthBy_0 7 rfl rfl)
theorem dX0_widthBy_8 : decode cX0_widthBy 8 = .ok (.iload_n 3, 1) := dk_29 (dk_at dksX0_widthBy_0 8 rfl rfl)
theorem dX0_widthBy_9 : decode cX0_widthBy 9 = .ok (.bipush 24, 2) := dk_16 24 (dk_at dksX0_widthBy_0 9 rfl rfl)
theorem dX0_widthBy_11 : decode cX0_widthBy 11 = .ok (.irem, 1) := dk_112 (dk_at dksX0_widthBy_0 11 rfl rfl)
theorem dX0_widthBy_12 : decode cX0_widthBy 12 = .ok (.i2l, 1) := dk_133 (dk_at dksX0_widthBy_0 12 rfl rfl)
theorem dX0_widthBy_13 : decode cX0_widthBy 13 = .ok (.lastore, 1) := dk_80 (dk_at dksX0_widthBy_0 13 rfl rfl)
theorem dX0_widthBy_14 : decode cX0_widthBy 14 = .ok (.aload_n 0, 1) := dk_42 (dk_at dksX0_widthBy_0 14 rfl rfl)
theorem dX0_widthBy_15 : decode cX0_widthBy 15 = .ok (.getfield 59, 3) := dk_180 0 59 (dk_at dksX0_widthBy_0 15 rfl rfl)
theorem dX0_widthBy_18 : decode cX0_widthBy 18 = .ok (.getfield 205, 3) := dk_180 0 205 (dk_at dksX0_widthBy_0 18 rfl rfl)
theorem dX0_widthBy_21 : decode cX0_widthBy 21 = .ok (.iconst 2, 1) := dk_5 (dk_at dksX0_widthBy_0 21 rfl rfl)
theorem dX0_widthBy_22 : decode cX0_widthBy 22 = .ok (.iload_n 3, 1) := dk_29 (dk_at dksX0_widthBy_0 22 rfl rfl)
theorem dX0_widthBy_23 : decode cX0_widthBy 23 = .ok (.bipush 24, 2) := dk_16 24 (dk_at dksX0_widthBy_1 0 rfl rfl)
theorem dX0_widthBy_25 : decode cX0_widthBy 25 = .ok (.idiv, 1) := dk_108 (dk_at dksX0_widthBy_1 2 rfl rfl)
theorem dX0_widthBy_26 : decode cX0_widthBy 26 = .ok (.i2l, 1) := dk_133 (dk_at dksX0_widthBy_1 3 rfl rfl)
theorem dX0_widthBy_27 : decode cX0_widthBy 27 = .ok (.lastore, 1) := dk_80 (dk_at dksX0_widthBy_1 4 rfl rfl)
theorem dX0_widthBy_28 : decode cX0_widthBy 28 = .ok (.aload_n 0, 1) := dk_42 (dk_at dksX0_widthBy_1 5 rfl rfl)
theorem dX0_widthBy_29 : decode cX0_widthBy 29 = .ok (.getfield 59, 3) := dk_180 0 59 (dk_at dksX0_widthBy_1 6 rfl rfl)
theorem dX0_widthBy_32 : decode cX0_widthBy 32 = .ok (.getfield 205, 3) := dk_180 0 205 (dk_at dksX0_widthBy_1 9 rfl rfl)
theorem dX0_widthBy_35 : decode cX0_widthBy 35 = .ok (.iconst 3, 1) := dk_6 (dk_at dksX0_widthBy_1 12 rfl rfl)
theorem dX0_widthBy_36 : decode cX0_widthBy 36 = .ok (.aload_n 0, 1) := dk_42 (dk_at dksX0_widthBy_1 13 rfl rfl)
theorem dX0_widthBy_37 : decode cX0_widthBy 37 = .ok (.iload_n 1, 1) := dk_27 (dk_at dksX0_widthBy_1 14 rfl rfl)
theorem dX0_widthBy_38 : decode cX0_widthBy 38 = .ok (.iload_n 2, 1) := dk_28 (dk_at dksX0_widthBy_1 15 rfl rfl)
theorem dX0_widthBy_39 : decode cX0_widthBy 39 = .ok (.iload_n 3, 1) := dk_29 (dk_at dksX0_widthBy_1 16 rfl rfl)
theorem dX0_widthBy_40 : decode cX0_widthBy 40 = .ok (.invokevirtual 209, 3) := dk_182 0 209 (dk_at dksX0_widthBy_1 17 rfl rfl)
theorem dX0_widthBy_43 : decode cX0_widthBy 43 = .ok (.i2l, 1) := dk_133 (dk_at dksX0_widthBy_1 20 rfl rfl)
theorem dX0_widthBy_44 : decode cX0_widthBy 44 = .ok (.lastore, 1) := dk_80 (dk_at dksX0_widthBy_1 21 rfl rfl)
theorem dX0_widthBy_45 : decode cX0_widthBy 45 = .ok (.aload_n 0, 1) := dk_42 (dk_at dksX0_widthBy_1 22 rfl rfl)
theorem dX0_widthBy_46 : decode cX0_widthBy 46 = .ok (.getfield 59, 3) := dk_180 0 59 (dk_at dksX0_widthBy_2 0 rfl rfl)
theorem dX0_widthBy_49 : decode cX0_widthBy 49 = .ok (.getfield 205, 3) := dk_180 0 205 (dk_at dksX0_widthBy_2 3 rfl rfl)
theorem dX0_widthBy_52 : decode cX0_widthBy 52 = .ok (.iconst 4, 1) := dk_7 (dk_at dksX0_widthBy_2 6 rfl rfl)
theorem dX0_widthBy_53 : decode cX0_widthBy 53 = .ok (.aload_n 0, 1) := dk_42 (dk_at dksX0_widthBy_2 7 rfl rfl)
theorem dX0_widthBy_54 : decode cX0_widthBy 54 = .ok (.getfield 31, 3) := dk_180 0 31 (dk_at dksX0_widthBy_2 8 rfl rfl)
theorem dX0_widthBy_57 : decode cX0_widthBy 57 = .ok (.iload_n 1, 1) := dk_27 (dk_at dksX0_widthBy_2 11 rfl rfl)
theorem dX0_widthBy_58 : decode cX0_widthBy 58 = .ok (.invokevirtual 196, 3) := dk_182 0 196 (dk_at dksX0_widthBy_2 12 rfl rfl)
theorem dX0_widthBy_61 : decode cX0_widthBy 61 = .ok (.getfield 200, 3) := dk_180 0 200 (dk_at dksX0_widthBy_2 15 rfl rfl)
theorem dX0_widthBy_64 : decode cX0_widthBy 64 = .ok (.i2l, 1) := dk_133 (dk_at dksX0_widthBy_2 18 rfl rfl)
theorem dX0_widthBy_65 : decode cX0_widthBy 65 = .ok (.lastore, 1) := dk_80 (dk_at dksX0_widthBy_2 19 rfl rfl)
theorem dX0_widthBy_66 : decode cX0_widthBy 66 = .ok (.lconst 0, 1) := dk_9 (dk_at dksX0_widthBy_2 20 rfl rfl)
theorem dX0_widthBy_67 : decode cX0_widthBy 67 = .ok (.ldc2_w 213, 3) := dk_20 0 213 (dk_at dksX0_widthBy_2 21 rfl rfl)
theorem dX0_widthBy_70 : decode cX0_widthBy 70 = .ok (.aload_n 0, 1) := dk_42 (dk_at dksX0_widthBy_3 0 rfl rfl)
theorem dX0_widthBy_71 : decode cX0_widthBy 71 = .ok (.getfield 31, 3) := dk_180 0 31 (dk_at dksX0_widthBy_3 1 rfl rfl)
theorem dX0_widthBy_74 : decode cX0_widthBy 74 = .ok (.iload_n 1, 1) := dk_27 (dk_at dksX0_widthBy_3 4 rfl rfl)
theorem dX0_widthBy_75 : decode cX0_widthBy 75 = .ok (.invokevirtual 196, 3) := dk_182 0 196 (dk_at dksX0_widthBy_3 5 rfl rfl)
theorem dX0_widthBy_78 : decode cX0_widthBy 78 = .ok (.getfield 215, 3) := dk_180 0 215 (dk_at dksX0_widthBy_3 8 rfl rfl)
theorem dX0_widthBy_81 : decode cX0_widthBy 81 = .ok (.aload_n 0, 1) := dk_42 (dk_at dksX0_widthBy_3 11 rfl rfl)
theorem dX0_widthBy_82 : decode cX0_widthBy 82 = .ok (.getfield 59, 3) := dk_180 0 59 (dk_at dksX0_widthBy_3 12 rfl rfl)
theorem dX0_widthBy_85 : decode cX0_widthBy 85 = .ok (.invokevirtual 219, 3) := dk_182 0 219 (dk_at dksX0_widthBy_3 15 rfl rfl)
theorem dX0_widthBy_88 : decode cX0_widthBy 88 = .ok (.invokestatic 7, 3) := dk_184 0 7 (dk_at dksX0_widthBy_3 18 rfl rfl)
theorem dX0_widthBy_91 : decode cX0_widthBy 91 = .ok (.invokestatic 13, 3) := dk_184 0 13 (dk_at dksX0_widthBy_3 21 rfl rfl)
theorem dX0_widthBy_94 : decode cX0_widthBy 94 = .ok (.l2i, 1) := dk_136 (dk_at dksX0_widthBy_4 0 rfl rfl)
theorem dX0_widthBy_95 : decode cX0_widthBy 95 = .ok (.ireturn, 1) := dk_172 (dk_at dksX0_widthBy_4 1 rfl rfl)
abbrev cX0_tide : ByteArray := prog_1_method_22_code
def yX0_tide : MethodName := ⟨RX0, "tide", "(III)I"⟩
def dkwX0_tide_0 : List UInt8 := [29, 28, 96, 42, 180, 0, 31, 27, 182, 0, 196, 180, 0, 200, 112, 172]
abbrev dktX0_tide_0 : List UInt8 := dkwX0_tide_0 ++ []
theorem dksX0_tide_0 : cX0_tide.data.toList.drop 0 = dktX0_tide_0 := by decide +kernel
theorem dX0_tide_0 : decode cX0_tide 0 = .ok (.iload_n 3, 1) := dk_29 (dk_at dksX0_tide_0 0 rfl rfl)
theorem dX0_tide_1 : decode cX0_tide 1 = .ok (.iload_n 2, 1) := dk_28 (dk_at dksX0_tide_0 1 rfl rfl)
theorem dX0_tide_2 : decode cX0_tide 2 = .ok (.iadd, 1) := dk_96 (dk_at dksX0_tide_0 2 rfl rfl)
theorem dX0_tide_3 : decode cX0_tide 3 = .ok (.aload_n 0, 1) := dk_42 (dk_at dksX0_tide_0 3 rfl rfl)
theorem dX0_tide_4 : decode cX0_tide 4 = .ok (.getfield 31, 3) := dk_180 0 31 (dk_at dksX0_tide_0 4 rfl rfl)
theorem dX0_tide_7 : decode cX0_tide 7 = .ok (.iload_n 1, 1) := dk_27 (dk_at dksX0_tide_0 7 rfl rfl)
theorem dX0_tide_8 : decode cX0_tide 8 = .ok (.invokevirtual 196, 3) := dk_182 0 196 (dk_at dksX0_tide_0 8 rfl rfl)
theorem dX0_tide_11 : decode cX0_tide 11 = .ok (.getfield 200, 3) := dk_180 0 200 (dk_at dksX0_tide_0 11 rfl rfl)
theorem dX0_tide_14 : decode cX0_tide 14 = .ok (.irem, 1) := dk_112 (dk_at dksX0_tide_0 14 rfl rfl)
theorem dX0_tide_15 : decode cX0_tide 15 = .ok (.ireturn, 1) := dk_172 (dk_at dksX0_tide_0 15 rfl rfl)
abbrev cX0_held : ByteArray := prog_1_method_3_code
def yX0_held : MethodName := ⟨RX0, "held", "(J)J"⟩
def dkwX0_held_0 : List UInt8 := [20, 0, 3, 20, 0, 5, 30, 184, 0, 7, 184, 0, 13, 173]
abbrev dktX0_held_0 : List UInt8 := dkwX0_held_0 ++ []
theorem dksX0_held_0 : cX0_held.data.toList.drop 0 = dktX0_held_0 := by decide +kernel
theorem dX0_held_0 : decode cX0_held 0 = .ok (.ldc2_w 3, 3) := dk_20 0 3 (dk_at dksX0_held_0 0 rfl rfl)
theorem dX0_held_3 : decode cX0_held 3 = .ok (.ldc2_w 5, 3) := dk_20 0 5 (dk_at dksX0_held_0 3 rfl rfl)
theorem dX0_held_6 : decode cX0_held 6 = .ok (.lload_n 0, 1) := dk_30 (dk_at dksX0_held_0 6 rfl rfl)
theorem dX0_held_7 : decode cX0_held 7 = .ok (.invokestatic 7, 3) := dk_184 0 7 (dk_at dksX0_held_0 7 rfl rfl)
theorem dX0_held_10 : decode cX0_held 10 = .ok (.invokestatic 13, 3) := dk_184 0 13 (dk_at dksX0_held_0 10 rfl rfl)
theorem dX0_held_13 : decode cX0_held 13 = .ok (.lreturn, 1) := dk_173 (dk_at dksX0_held_0 13 rfl rfl)
abbrev cX0_looked : ByteArray := prog_1_method_73_code
def yX0_looked : MethodName := ⟨RX0, "looked", "(IJ)J"⟩
def dkwX0_looked_6 : List UInt8 := [21, 4, 133, 173]
abbrev dktX0_looked_6 : List UInt8 := dkwX0_looked_6 ++ []
def dkwX0_looked_5 : List UInt8 := [180, 1, 150, 182, 0, 252, 153, 0, 7, 4, 167, 0, 4, 3, 96, 54, 4, 132, 5, 1, 167, 255, 209]
abbrev dktX0_looked_5 : List UInt8 := dkwX0_looked_5 ++ dktX0_looked_6
def dkwX0_looked_4 : List UInt8 := [182, 0, 186, 162, 0, 44, 21, 4, 42, 21, 5, 42, 180, 0, 31, 32, 136, 182, 1, 30, 180, 1, 34, 42]
abbrev dktX0_looked_4 : List UInt8 := dkwX0_looked_4 ++ dktX0_looked_5
def dkwX0_looked_3 : List UInt8 := [155, 0, 13, 32, 42, 182, 0, 189, 133, 148, 155, 0, 5, 9, 173, 3, 54, 4, 3, 54, 5, 21, 5, 42]
abbrev dktX0_looked_3 : List UInt8 := dkwX0_looked_3 ++ dktX0_looked_4
def dkwX0_looked_2 : List UInt8 := [42, 180, 0, 69, 180, 0, 225, 21, 4, 46, 42, 180, 1, 150, 182, 0, 209, 133, 173, 32, 9, 148]
abbrev dktX0_looked_2 : List UInt8 := dkwX0_looked_2 ++ dktX0_looked_3
def dkwX0_looked_1 : List UInt8 := [136, 54, 4, 27, 154, 0, 17, 42, 21, 4, 42, 180, 1, 150, 182, 0, 231, 133, 167, 0, 24, 42, 21, 4]
abbrev dktX0_looked_1 : List UInt8 := dkwX0_looked_1 ++ dktX0_looked_2
def dkwX0_looked_0 : List UInt8 := [27, 5, 162, 0, 65, 32, 9, 148, 155, 0, 13, 32, 42, 182, 0, 186, 133, 148, 155, 0, 5, 9, 173, 32]
abbrev dktX0_looked_0 : List UInt8 := dkwX0_looked_0 ++ dktX0_looked_1
theorem dksX0_looked_0 : cX0_looked.data.toList.drop 0 = dktX0_looked_0 := by decide +kernel
theorem dksX0_looked_1 : cX0_looked.data.toList.drop 24 = dktX0_looked_1 := dk_seg dksX0_looked_0 24 rfl rfl
theorem dksX0_looked_2 : cX0_looked.data.toList.drop 48 = dktX0_looked_2 := dk_seg dksX0_looked_1 24 rfl rfl
theorem dksX0_looked_3 : cX0_looked.data.toList.drop 70 = dktX0_looked_3 := dk_seg dksX0_looked_2 22 rfl rfl
theorem dksX0_looked_4 : cX0_looked.data.toList.drop 94 = dktX0_looked_4 := dk_seg dksX0_looked_3 24 rfl rfl
theorem dksX0_looked_5 : cX0_looked.data.toList.drop 118 = dktX0_looked_5 := dk_seg dksX0_looked_4 24 rfl rfl
theorem dksX0_looked_6 : cX0_looked.data.toList.drop 141 = dktX0_looked_6 := dk_seg dksX0_looked_5 23 rfl rfl
theorem dX0_looked_0 : decode cX0_looked 0 = .ok (.iload_n 1, 1) := dk_27 (dk_at dksX0_looked_0 0 rfl rfl)
theorem dX0_looked_1 : decode cX0_looked 1 = .ok (.iconst 2, 1) := dk_5 (dk_at dksX0_looked_0 1 rfl rfl)
theorem dX0_looked_2 : decode cX0_looked 2 = .ok (.if_icmp .ge 65, 3) := dk_162 0 65 (dk_at dksX0_looked_0 2 rfl rfl)
theorem dX0_looked_5 : decode cX0_looked 5 = .ok (.lload_n 2, 1) := dk_32 (dk_at dksX0_looked_0 5 rfl rfl)
theorem dX0_looked_6 : decode cX0_looked 6 = .ok (.lconst 0, 1) := dk_9 (dk_at dksX0_looked_0 6 rfl rfl)
theorem dX0_looked_7 : decode cX0_looked 7 = .ok (.lcmp, 1) := dk_148 (dk_at dksX0_looked_0 7 rfl rfl)
theorem dX0_looked_8 : decode cX0_looked 8 = .ok (.ifCond .lt 13, 3) := dk_155 0 13 (dk_at dksX0_looked_0 8 rfl rfl)
theorem dX0_looked_11 : decode cX0_looked 11 = .ok (.lload_n 2, 1) := dk_32 (dk_at dksX0_looked_0 11 rfl rfl)
theorem dX0_looked_12 : decode cX0_looked 12 = .ok (.aload_n 0, 1) := dk_42 (dk_at dksX0_looked_0 12 rfl rfl)
theorem dX0_looked_13 : decode cX0_looked 13 = .ok (.invokevirtual 186, 3) := dk_182 0 186 (dk_at dksX0_looked_0 13 rfl rfl)
theorem dX0_looked_16 : decode cX0_looked 16 = .ok (.i2l, 1) := dk_133 (dk_at dksX0_looked_0 16 rfl rfl)
theorem dX0_looked_17 : decode cX0_looked 17 = .ok (.lcmp, 1) := dk_148 (dk_at dksX0_looked_0 17 rfl rfl)
theorem dX0_looked_18 : decode cX0_looked 18 = .ok (.ifCond .lt 5, 3) := dk_155 0 5 (dk_at dksX0_looked_0 18 rfl rfl)
theorem dX0_looked_21 : decode cX0_looked 21 = .ok (.lconst 0, 1) := dk_9 (dk_at dksX0_looked_0 21 rfl rfl)
theorem dX0_looked_22 : decode cX0_looked 22 = .ok (.lreturn, 1) := dk_173 (dk_at dksX0_looked_0 22 rfl rfl)
theorem dX0_looked_23 : decode cX0_looked 23 = .ok (.lload_n 2, 1) := dk_32 (dk_at dksX0_looked_0 23 rfl rfl)
theorem dX0_looked_24 : decode cX0_looked 24 = .ok (.l2i, 1) := dk_136 (dk_at dksX0_looked_1 0 rfl rfl)
theorem dX0_looked_25 : decode cX0_looked 25 = .ok (.istore 4, 2) := dk_54 4 (dk_at dksX0_looked_1 1 rfl rfl)
theorem dX0_looked_27 : decode cX0_looked 27 = .ok (.iload_n 1, 1) := dk_27 (dk_at dksX0_looked_1 3 rfl rfl)
theorem dX0_looked_28 : decode cX0_looked 28 = .ok (.ifCond .ne 17, 3) := dk_154 0 17 (dk_at dksX0_looked_1 4 rfl rfl)
theorem dX0_looked_31 : decode cX0_looked 31 = .ok (.aload_n 0, 1) := dk_42 (dk_at dksX0_looked_1 7 rfl rfl)
theorem dX0_looked_32 : decode cX0_looked 32 = .ok (.iload 4, 2) := dk_21 4 (dk_at dksX0_looked_1 8 rfl rfl)
theorem dX0_looked_34 : decode cX0_looked 34 = .ok (.aload_n 0, 1) := dk_42 (dk_at dksX0_looked_1 10 rfl rfl)
theorem dX0_looked_35 : decode cX0_looked 35 = .ok (.getfield 406, 3) := dk_180 1 150 (dk_at dksX0_looked_1 11 rfl rfl)
theorem dX0_looked_38 : decode cX0_looked 38 = .ok (.invokevirtual 231, 3) := dk_182 0 231 (dk_at dksX0_looked_1 14 rfl rfl)
theorem dX0_looked_41 : decode cX0_looked 41 = .ok (.i2l, 1) := dk_133 (dk_at dksX0_looked_1 17 rfl rfl)
theorem dX0_looked_42 : decode cX0_looked 42 = .ok (.goto 24, 3) := dk_167 0 24 (dk_at dksX0_looked_1 18 rfl rfl)
theorem dX0_looked_45 : decode cX0_looked 45 = .ok (.aload_n 0, 1) := dk_42 (dk_at dksX0_looked_1 21 rfl rfl)
theorem dX0_looked_46 : decode cX0_looked 46 = .ok (.iload 4, 2) := dk_21 4 (dk_at dksX0_looked_1 22 rfl rfl)
theorem dX0_looked_48 : decode cX0_looked 48 = .ok (.aload_n 0, 1) := dk_42 (dk_at dksX0_looked_2 0 rfl rfl)
theorem dX0_looked_49 : decode cX0_looked 49 = .ok (.getfield 69, 3) := dk_180 0 69 (dk_at dksX0_looked_2 1 rfl rfl)
theorem dX0_looked_52 : decode cX0_looked 52 = .ok (.getfield 225, 3) := dk_180 0 225 (dk_at dksX0_looked_2 4 rfl rfl)
theorem dX0_looked_55 : decode cX0_looked 55 = .ok (.iload 4, 2) := dk_21 4 (dk_at dksX0_looked_2 7 rfl rfl)
theorem dX0_looked_57 : decode cX0_looked 57 = .ok (.iaload, 1) := dk_46 (dk_at dksX0_looked_2 9 rfl rfl)
theorem dX0_looked_58 : decode cX0_looked 58 = .ok (.aload_n 0, 1) := dk_42 (dk_at dksX0_looked_2 10 rfl rfl)
theorem dX0_looked_59 : decode cX0_looked 59 = .ok (.getfield 406, 3) := dk_180 1 150 (dk_at dksX0_looked_2 11 rfl rfl)
theorem dX0_looked_62 : decode cX0_looked 62 = .ok (.invokevirtual 209, 3) := dk_182 0 209 (dk_at dksX0_looked_2 14 rfl rfl)
theorem dX0_looked_65 : decode cX0_looked 65 = .ok (.i2l, 1) := dk_133 (dk_at dksX0_looked_2 17 rfl rfl)
theorem dX0_looked_66 : decode cX0_looked 66 = .ok (.lreturn, 1) := dk_173 (dk_at dksX0_looked_2 18 rfl rfl)
theorem dX0_looked_67 : decode cX0_looked 67 = .ok (.lload_n 2, 1) := dk_32 (dk_at dksX0_looked_2 19 rfl rfl)
theorem dX0_looked_68 : decode cX0_looked 68 = .ok (.lconst 0, 1) := dk_9 (dk_at dksX0_looked_2 20 rfl rfl)
theorem dX0_looked_69 : decode cX0_looked 69 = .ok (.lcmp, 1) := dk_148 (dk_at dksX0_looked_2 21 rfl rfl)
theorem dX0_looked_70 : decode cX0_looked 70 = .ok (.ifCond .lt 13, 3) := dk_155 0 13 (dk_at dksX0_looked_3 0 rfl rfl)
theorem dX0_looked_73 : decode cX0_looked 73 = .ok (.lload_n 2, 1) := dk_32 (dk_at dksX0_looked_3 3 rfl rfl)
theorem dX0_looked_74 : decode cX0_looked 74 = .ok (.aload_n 0, 1) := dk_42 (dk_at dksX0_looked_3 4 rfl rfl)
theorem dX0_looked_75 : decode cX0_looked 75 = .ok (.invokevirtual 189, 3) := dk_182 0 189 (dk_at dksX0_looked_3 5 rfl rfl)
theorem dX0_looked_78 : decode cX0_looked 78 = .ok (.i2l, 1) := dk_133 (dk_at dksX0_looked_3 8 rfl rfl)
theorem dX0_looked_79 : decode cX0_looked 79 = .ok (.lcmp, 1) := dk_148 (dk_at dksX0_looked_3 9 rfl rfl)
theorem dX0_looked_80 : decode cX0_looked 80 = .ok (.ifCond .lt 5, 3) := dk_155 0 5 (dk_at dksX0_looked_3 10 rfl rfl)
theorem dX0_looked_83 : decode cX0_looked 83 = .ok (.lconst 0, 1) := dk_9 (dk_at dksX0_looked_3 13 rfl rfl)
theorem dX0_looked_84 : decode cX0_looked 84 = .ok (.lreturn, 1) := dk_173 (dk_at dksX0_looked_3 14 rfl rfl)
theorem dX0_looked_85 : decode cX0_looked 85 = .ok (.iconst 0, 1) := dk_3 (dk_at dksX0_looked_3 15 rfl rfl)
theorem dX0_looked_86 : decode cX0_looked 86 = .ok (.istore 4, 2) := dk_54 4 (dk_at dksX0_looked_3 16 rfl rfl)
theorem dX0_looked_88 : decode cX0_looked 88 = .ok (.iconst 0, 1) := dk_3 (dk_at dksX0_looked_3 18 rfl rfl)
theorem dX0_looked_89 : decode cX0_looked 89 = .ok (.istore 5, 2) := dk_54 5 (dk_at dksX0_looked_3 19 rfl rfl)
theorem dX0_looked_91 : decode cX0_looked 91 = .ok (.iload 5, 2) := dk_21 5 (dk_at dksX0_looked_3 21 rfl rfl)
theorem dX0_looked_93 : decode cX0_looked 93 = .ok (.aload_n 0, 1) := dk_42 (dk_at dksX0_looked_3 23 rfl rfl)
theorem dX0_looked_94 : decode cX0_looked 94 = .ok (.invokevirtual 186, 3) := dk_182 0 186 (dk_at dksX0_looked_4 0 rfl rfl)
theorem dX0_looked_97 : decode cX0_looked 97 = .ok (.if_icmp .ge 44, 3) := dk_162 0 44 (dk_at dksX0_looked_4 3 rfl rfl)
theorem dX0_looked_100 : decode cX0_looked 100 = .ok (.iload 4, 2) := dk_21 4 (dk_at dksX0_looked_4 6 rfl rfl)
theorem dX0_looked_102 : decode cX0_looked 102 = .ok (.aload_n 0, 1) := dk_42 (dk_at dksX0_looked_4 8 rfl rfl)
theorem dX0_looked_103 : decode cX0_looked 103 = .ok (.iload 5, 2) := dk_21 5 (dk_at dksX0_looked_4 9 rfl rfl)
theorem dX0_looked_105 : decode cX0_looked 105 = .ok (.aload_n 0, 1) := dk_42 (dk_at dksX0_looked_4 11 rfl rfl)
theorem dX0_looked_106 : decode cX0_looked 106 = .ok (.getfield 31, 3) := dk_180 0 31 (dk_at dksX0_looked_4 12 rfl rfl)
theorem dX0_looked_109 : decode cX0_looked 109 = .ok (.lload_n 2, 1) := dk_32 (dk_at dksX0_looked_4 15 rfl rfl)
theorem dX0_looked_110 : decode cX0_looked 110 = .ok (.l2i, 1) := dk_136 (dk_at dksX0_looked_4 16 rfl rfl)
theorem dX0_looked_111 : decode cX0_looked 111 = .ok (.invokevirtual 286, 3) := dk_182 1 30 (dk_at dksX0_looked_4 17 rfl rfl)
theorem dX0_looked_114 : decode cX0_looked 114 = .ok (.getfield 290, 3) := dk_180 1 34 (dk_at dksX0_looked_4 20 rfl rfl)
theorem dX0_looked_117 : decode cX0_looked 117 = .ok (.aload_n 0, 1) := dk_42 (dk_at dksX0_looked_4 23 rfl rfl)
theorem dX0_looked_118 : decode cX0_looked 118 = .ok (.getfield 406, 3) := dk_180 1 150 (dk_at dksX0_looked_5 0 rfl rfl)
theorem dX0_looked_121 : decode cX0_looked 121 = .ok (.invokevirtual 252, 3) := dk_182 0 252 (dk_at dksX0_looked_5 3 rfl rfl)
theorem dX0_looked_124 : decode cX0_looked 124 = .ok (.ifCond .eq 7, 3) := dk_153 0 7 (dk_at dksX0_looked_5 6 rfl rfl)
theorem dX0_looked_127 : decode cX0_looked 127 = .ok (.iconst 1, 1) := dk_4 (dk_at dksX0_looked_5 9 rfl rfl)
theorem dX0_looked_128 : decode cX0_looked 128 = .ok (.goto 4, 3) := dk_167 0 4 (dk_at dksX0_looked_5 10 rfl rfl)
theorem dX0_looked_131 : decode cX0_looked 131 = .ok (.iconst 0, 1) := dk_3 (dk_at dksX0_looked_5 13 rfl rfl)
theorem dX0_looked_132 : decode cX0_looked 132 = .ok (.iadd, 1) := dk_96 (dk_at dksX0_looked_5 14 rfl rfl)
theorem dX0_looked_133 : decode cX0_looked 133 = .ok (.istore 4, 2) := dk_54 4 (dk_at dksX0_looked_5 15 rfl rfl)
theorem dX0_looked_135 : decode cX0_looked 135 = .ok (.iinc 5 1, 3) := dk_132 5 1 (dk_at dksX0_looked_5 17 rfl rfl)
theorem dX0_looked_138 : decode cX0_looked 138 = .ok (.goto (-47), 3) := dk_167 255 209 (dk_at dksX0_looked_5 20 rfl rfl)
theorem dX0_looked_141 : decode cX0_looked 141 = .ok (.iload 4, 2) := dk_21 4 (dk_at dksX0_looked_6 0 rfl rfl)
theorem dX0_looked_143 : decode cX0_looked 143 = .ok (.i2l, 1) := dk_133 (dk_at dksX0_looked_6 2 rfl rfl)
theorem dX0_looked_144 : decode cX0_looked 144 = .ok (.lreturn, 1) := dk_173 (dk_at dksX0_looked_6 3 rfl rfl)
abbrev cX0_canPass : ByteArray := prog_1_method_26_code
def yX0_canPass : MethodName := ⟨RX0, "canPass", "(III)Z"⟩
def dkwX0_canPass_2 : List UInt8 := [167, 255, 222, 4, 172]
abbrev dktX0_canPass_2 : List UInt8 := dkwX0_canPass_2 ++ []
def dkwX0_canPass_1 : List UInt8 := [180, 0, 238, 162, 0, 24, 42, 27, 29, 21, 4, 96, 182, 0, 241, 28, 162, 0, 5, 3, 172, 132, 4, 1]
abbrev dktX0_canPass_1 : List UInt8 := dkwX0_canPass_1 ++ dktX0_canPass_2
def dkwX0_canPass_0 : List UInt8 := [27, 42, 180, 0, 78, 160, 0, 5, 3, 172, 3, 54, 4, 21, 4, 42, 180, 0, 31, 27, 182, 0, 196]
abbrev dktX0_canPass_0 : List UInt8 := dkwX0_canPass_0 ++ dktX0_canPass_1
theorem dksX0_canPass_0 : cX0_canPass.data.toList.drop 0 = dktX0_canPass_0 := by decide +kernel
theorem dksX0_canPass_1 : cX0_canPass.data.toList.drop 23 = dktX0_canPass_1 := dk_seg dksX0_canPass_0 23 rfl rfl
theorem dksX0_canPass_2 : cX0_canPass.data.toList.drop 47 = dktX0_canPass_2 := dk_seg dksX0_canPass_1 24 rfl rfl
theorem dX0_canPass_0 : decode cX0_canPass 0 = .ok (.iload_n 1, 1) := dk_27 (dk_at dksX0_canPass_0 0 rfl rfl)
theorem dX0_canPass_1 : decode cX0_canPass 1 = .ok (.aload_n 0, 1) := dk_42 (dk_at dksX0_canPass_0 1 rfl rfl)
theorem dX0_canPass_2 : decode cX0_canPass 2 = .ok (.getfield 78, 3) := dk_180 0 78 (dk_at dksX0_canPass_0 2 rfl rfl)
theorem dX0_canPass_5 : decode cX0_canPass 5 = .ok (.if_icmp .ne 5, 3) := dk_160 0 5 (dk_at dksX0_canPass_0 5 rfl rfl)
theorem dX0_canPass_8 : decode cX0_canPass 8 = .ok (.iconst 0, 1) := dk_3 (dk_at dksX0_canPass_0 8 rfl rfl)
theorem dX0_canPass_9 : decode cX0_canPass 9 = .ok (.ireturn, 1) := dk_172 (dk_at dksX0_canPass_0 9 rfl rfl)
theorem dX0_canPass_10 : decode cX0_canPass 10 = .ok (.iconst 0, 1) := dk_3 (dk_at dksX0_canPass_0 10 rfl rfl)
theorem dX0_canPass_11 : decode cX0_canPass 11 = .ok (.istore 4, 2) := dk_54 4 (dk_at dksX0_canPass_0 11 rfl rfl)
theorem dX0_canPass_13 : decode cX0_canPass 13 = .ok (.iload 4, 2) := dk_21 4 (dk_at dksX0_canPass_0 13 rfl rfl)
theorem dX0_canPass_15 : decode cX0_canPass 15 = .ok (.aload_n 0, 1) := dk_42 (dk_at dksX0_canPass_0 15 rfl rfl)
theorem dX0_canPass_16 : decode cX0_canPass 16 = .ok (.getfield 31, 3) := dk_180 0 31 (dk_at dksX0_canPass_0 16 rfl rfl)
theorem dX0_canPass_19 : decode cX0_canPass 19 = .ok (.iload_n 1, 1) := dk_27 (dk_at dksX0_canPass_0 19 rfl rfl)
theorem dX0_canPass_20 : decode cX0_canPass 20 = .ok (.invokevirtual 196, 3) := dk_182 0 196 (dk_at dksX0_canPass_0 20 rfl rfl)
theorem dX0_canPass_23 : decode cX0_canPass 23 = .ok (.getfield 238, 3) := dk_180 0 238 (dk_at dksX0_canPass_1 0 rfl rfl)
theorem dX0_canPass_26 : decode cX0_canPass 26 = .ok (.if_icmp .ge 24, 3) := dk_162 0 24 (dk_at dksX0_canPass_1 3 rfl rfl)
theorem dX0_canPass_29 : decode cX0_canPass 29 = .ok (.aload_n 0, 1) := dk_42 (dk_at dksX0_canPass_1 6 rfl rfl)
theorem dX0_canPass_30 : decode cX0_canPass 30 = .ok (.iload_n 1, 1) := dk_27 (dk_at dksX0_canPass_1 7 rfl rfl)
theorem dX0_canPass_31 : decode cX0_canPass 31 = .ok (.iload_n 3, 1) := dk_29 (dk_at dksX0_canPass_1 8 rfl rfl)
theorem dX0_canPass_32 : decode cX0_canPass 32 = .ok (.iload 4, 2) := dk_21 4 (dk_at dksX0_canPass_1 9 rfl rfl)
theorem dX0_canPass_34 : decode cX0_canPass 34 = .ok (.iadd, 1) := dk_96 (dk_at dksX0_canPass_1 11 rfl rfl)
theorem dX0_canPass_35 : decode cX0_canPass 35 = .ok (.invokevirtual 241, 3) := dk_182 0 241 (dk_at dksX0_canPass_1 12 rfl rfl)
theorem dX0_canPass_38 : decode cX0_canPass 38 = .ok (.iload_n 2, 1) := dk_28 (dk_at dksX0_canPass_1 15 rfl rfl)
theorem dX0_canPass_39 : decode cX0_canPass 39 = .ok (.if_icmp .ge 5, 3) := dk_162 0 5 (dk_at dksX0_canPass_1 16 rfl rfl)
theorem dX0_canPass_42 : decode cX0_canPass 42 = .ok (.iconst 0, 1) := dk_3 (dk_at dksX0_canPass_1 19 rfl rfl)
theorem dX0_canPass_43 : decode cX0_canPass 43 = .ok (.ireturn, 1) := dk_172 (dk_at dksX0_canPass_1 20 rfl rfl)
theorem dX0_canPass_44 : decode cX0_canPass 44 = .ok (.iinc 4 1, 3) := dk_132 4 1 (dk_at dksX0_canPass_1 21 rfl rfl)
theorem dX0_canPass_47 : decode cX0_canPass 47 = .ok (.goto (-34), 3) := dk_167 255 222 (dk_at dksX0_canPass_2 0 rfl rfl)
theorem dX0_canPass_50 : decode cX0_canPass 50 = .ok (.iconst 1, 1) := dk_4 (dk_at dksX0_canPass_2 3 rfl rfl)
theorem dX0_canPass_51 : decode cX0_canPass 51 = .ok (.ireturn, 1) := dk_172 (dk_at dksX0_canPass_2 4 rfl rfl)
abbrev cX0_left : ByteArray := prog_1_method_25_code
def yX0_left : MethodName := ⟨RX0, "left", "(II)I"⟩
def dkwX0_left_3 : List UInt8 := [167, 0, 4, 3, 100, 62, 132, 4, 1, 167, 255, 188, 29, 172]
abbrev dktX0_left_3 : List UInt8 := dkwX0_left_3 ++ []
def dkwX0_left_2 : List UInt8 := [25, 5, 4, 46, 42, 180, 0, 31, 27, 182, 0, 196, 180, 0, 238, 96, 162, 0, 10, 25, 5, 5, 46]
abbrev dktX0_left_2 : List UInt8 := dkwX0_left_2 ++ dktX0_left_3
def dkwX0_left_1 : List UInt8 := [21, 4, 50, 58, 5, 29, 25, 5, 3, 46, 27, 160, 0, 38, 28, 25, 5, 4, 46, 161, 0, 30, 28]
abbrev dktX0_left_1 : List UInt8 := dkwX0_left_1 ++ dktX0_left_2
def dkwX0_left_0 : List UInt8 := [42, 27, 28, 182, 0, 231, 62, 3, 54, 4, 21, 4, 42, 180, 0, 235, 162, 0, 65, 42, 180, 0, 75]
abbrev dktX0_left_0 : List UInt8 := dkwX0_left_0 ++ dktX0_left_1
theorem dksX0_left_0 : cX0_left.data.toList.drop 0 = dktX0_left_0 := by decide +kernel
theorem dksX0_left_1 : cX0_left.data.toList.drop 23 = dktX0_left_1 := dk_seg dksX0_left_0 23 rfl rfl
theorem dksX0_left_2 : cX0_left.data.toList.drop 46 = dktX0_left_2 := dk_seg dksX0_left_1 23 rfl rfl
theorem dksX0_left_3 : cX0_left.data.toList.drop 69 = dktX0_left_3 := dk_seg dksX0_left_2 23 rfl rfl
theorem dX0_left_0 : decode cX0_left 0 = .ok (.aload_n 0, 1) := dk_42 (dk_at dksX0_left_0 0 rfl rfl)
theorem dX0_left_1 : decode cX0_left 1 = .ok (.iload_n 1, 1) := dk_27 (dk_at dksX0_left_0 1 rfl rfl)
theorem dX0_left_2 : decode cX0_left 2 = .ok (.iload_n 2, 1) := dk_28 (dk_at dksX0_left_0 2 rfl rfl)
theorem dX0_left_3 : decode cX0_left 3 = .ok (.invokevirtual 231, 3) := dk_182 0 231 (dk_at dksX0_left_0 3 rfl rfl)
theorem dX0_left_6 : decode cX0_left 6 = .ok (.istore_n 3, 1) := dk_62 (dk_at dksX0_left_0 6 rfl rfl)
theorem dX0_left_7 : decode cX0_left 7 = .ok (.iconst 0, 1) := dk_3 (dk_at dksX0_left_0 7 rfl rfl)
theorem dX0_left_8 : decode cX0_left 8 = .ok (.istore 4, 2) := dk_54 4 (dk_at dksX0_left_0 8 rfl rfl)
theorem dX0_left_10 : decode cX0_left 10 = .ok (.iload 4, 2) := dk_21 4 (dk_at dksX0_left_0 10 rfl rfl)
theorem dX0_left_12 : decode cX0_left 12 = .ok (.aload_n 0, 1) := dk_42 (dk_at dksX0_left_0 12 rfl rfl)
theorem dX0_left_13 : decode cX0_left 13 = .ok (.getfield 235, 3) := dk_180 0 235 (dk_at dksX0_left_0 13 rfl rfl)
theorem dX0_left_16 : decode cX0_left 16 = .ok (.if_icmp .ge 65, 3) := dk_162 0 65 (dk_at dksX0_left_0 16 rfl rfl)
theorem dX0_left_19 : decode cX0_left 19 = .ok (.aload_n 0, 1) := dk_42 (dk_at dksX0_left_0 19 rfl rfl)
theorem dX0_left_20 : decode cX0_left 20 = .ok (.getfield 75, 3) := dk_180 0 75 (dk_at dksX0_left_0 20 rfl rfl)
theorem dX0_left_23 : decode cX0_left 23 = .ok (.iload 4, 2) := dk_21 4 (dk_at dksX0_left_1 0 rfl rfl)
theorem dX0_left_25 : decode cX0_left 25 = .ok (.aaload, 1) := dk_50 (dk_at dksX0_left_1 2 rfl rfl)
theorem dX0_left_26 : decode cX0_left 26 = .ok (.astore 5, 2) := dk_58 5 (dk_at dksX0_left_1 3 rfl rfl)
theorem dX0_left_28 : decode cX0_left 28 = .ok (.iload_n 3, 1) := dk_29 (dk_at dksX0_left_1 5 rfl rfl)
theorem dX0_left_29 : decode cX0_left 29 = .ok (.aload 5, 2) := dk_25 5 (dk_at dksX0_left_1 6 rfl rfl)
theorem dX0_left_31 : decode cX0_left 31 = .ok (.iconst 0, 1) := dk_3 (dk_at dksX0_left_1 8 rfl rfl)
theorem dX0_left_32 : decode cX0_left 32 = .ok (.iaload, 1) := dk_46 (dk_at dksX0_left_1 9 rfl rfl)
theorem dX0_left_33 : decode cX0_left 33 = .ok (.iload_n 1, 1) := dk_27 (dk_at dksX0_left_1 10 rfl rfl)
theorem dX0_left_34 : decode cX0_left 34 = .ok (.if_icmp .ne 38, 3) := dk_160 0 38 (dk_at dksX0_left_1 11 rfl rfl)
theorem dX0_left_37 : decode cX0_left 37 = .ok (.iload_n 2, 1) := dk_28 (dk_at dksX0_left_1 14 rfl rfl)
theorem dX0_left_38 : decode cX0_left 38 = .ok (.aload 5, 2) := dk_25 5 (dk_at dksX0_left_1 15 rfl rfl)
theorem dX0_left_40 : decode cX0_left 40 = .ok (.iconst 1, 1) := dk_4 (dk_at dksX0_left_1 17 rfl rfl)
theorem dX0_left_41 : decode cX0_left 41 = .ok (.iaload, 1) := dk_46 (dk_at dksX0_left_1 18 rfl rfl)
theorem dX0_left_42 : decode cX0_left 42 = .ok (.if_icmp .lt 30, 3) := dk_161 0 30 (dk_at dksX0_left_1 19 rfl rfl)
theorem dX0_left_45 : decode cX0_left 45 = .ok (.iload_n 2, 1) := dk_28 (dk_at dksX0_left_1 22 rfl rfl)
theorem dX0_left_46 : decode cX0_left 46 = .ok (.aload 5, 2) := dk_25 5 (dk_at dksX0_left_2 0 rfl rfl)
theorem dX0_left_48 : decode cX0_left 48 = .ok (.iconst 1, 1) := dk_4 (dk_at dksX0_left_2 2 rfl rfl)
theorem dX0_left_49 : decode cX0_left 49 = .ok (.iaload, 1) := dk_46 (dk_at dksX0_left_2 3 rfl rfl)
theorem dX0_left_50 : decode cX0_left 50 = .ok (.aload_n 0, 1) := dk_42 (dk_at dksX0_left_2 4 rfl rfl)
theorem dX0_left_51 : decode cX0_left 51 = .ok (.getfield 31, 3) := dk_180 0 31 (dk_at dksX0_left_2 5 rfl rfl)
theorem dX0_left_54 : decode cX0_left 54 = .ok (.iload_n 1, 1) := dk_27 (dk_at dksX0_left_2 8 rfl rfl)
theorem dX0_left_55 : decode cX0_left 55 = .ok (.invokevirtual 196, 3) := dk_182 0 196 (dk_at dksX0_left_2 9 rfl rfl)
theorem dX0_left_58 : decode cX0_left 58 = .ok (.getfield 238, 3) := dk_180 0 238 (dk_at dksX0_left_2 12 rfl rfl)
theorem dX0_left_61 : decode cX0_left 61 = .ok (.iadd, 1) := dk_96 (dk_at dksX0_left_2 15 rfl rfl)
theorem dX0_left_62 : decode cX0_left 62 = .ok (.if_icmp .ge 10, 3) := dk_162 0 10 (dk_at dksX0_left_2 16 rfl rfl)
theorem dX0_left_65 : decode cX0_left 65 = .ok (.aload 5, 2) := dk_25 5 (dk_at dksX0_left_2 19 rfl rfl)
theorem dX0_left_67 : decode cX0_left 67 = .ok (.iconst 2, 1) := dk_5 (dk_at dksX0_left_2 21 rfl rfl)
theorem dX0_left_68 : decode cX0_left 68 = .ok (.iaload, 1) := dk_46 (dk_at dksX0_left_2 22 rfl rfl)
theorem dX0_left_69 : decode cX0_left 69 = .ok (.goto 4, 3) := dk_167 0 4 (dk_at dksX0_left_3 0 rfl rfl)
theorem dX0_left_72 : decode cX0_left 72 = .ok (.iconst 0, 1) := dk_3 (dk_at dksX0_left_3 3 rfl rfl)
theorem dX0_left_73 : decode cX0_left 73 = .ok (.isub, 1) := dk_100 (dk_at dksX0_left_3 4 rfl rfl)
theorem dX0_left_74 : decode cX0_left 74 = .ok (.istore_n 3, 1) := dk_62 (dk_at dksX0_left_3 5 rfl rfl)
theorem dX0_left_75 : decode cX0_left 75 = .ok (.iinc 4 1, 3) := dk_132 4 1 (dk_at dksX0_left_3 6 rfl rfl)
theorem dX0_left_78 : decode cX0_left 78 = .ok (.goto (-68), 3) := dk_167 255 188 (dk_at dksX0_left_3 9 rfl rfl)
theorem dX0_left_81 : decode cX0_left 81 = .ok (.iload_n 3, 1) := dk_29 (dk_at dksX0_left_3 12 rfl rfl)
theorem dX0_left_82 : decode cX0_left 82 = .ok (.ireturn, 1) := dk_172 (dk_at dksX0_left_3 13 rfl rfl)
abbrev cX0_passes : ByteArray := prog_1_method_28_code
def yX0_passes : MethodName := ⟨RX0, "passes", "(III)I"⟩
def dkwX0_passes_1 : List UInt8 := [154, 0, 7, 2, 167, 0, 18, 42, 27, 28, 29, 182, 0, 252, 153, 0, 7, 4, 167, 0, 4, 3, 172]
abbrev dktX0_passes_1 : List UInt8 := dkwX0_passes_1 ++ []
def dkwX0_passes_0 : List UInt8 := [42, 27, 182, 0, 244, 153, 0, 20, 28, 184, 0, 249, 153, 0, 13, 29, 3, 18, 248, 184, 0, 192]
abbrev dktX0_passes_0 : List UInt8 := dkwX0_passes_0 ++ dktX0_passes_1
theorem dksX0_passes_0 : cX0_passes.data.toList.drop 0 = dktX0_passes_0 := by decide +kernel
theorem dksX0_passes_1 : cX0_passes.data.toList.drop 22 = dktX0_passes_1 := dk_seg dksX0_passes_0 22 rfl rfl
theorem dX0_passes_0 : decode cX0_passes 0 = .ok (.aload_n 0, 1) := dk_42 (dk_at dksX0_passes_0 0 rfl rfl)
theorem dX0_passes_1 : decode cX0_passes 1 = .ok (.iload_n 1, 1) := dk_27 (dk_at dksX0_passes_0 1 rfl rfl)
theorem dX0_passes_2 : decode cX0_passes 2 = .ok (.invokevirtual 244, 3) := dk_182 0 244 (dk_at dksX0_passes_0 2 rfl rfl)
theorem dX0_passes_5 : decode cX0_passes 5 = .ok (.ifCond .eq 20, 3) := dk_153 0 20 (dk_at dksX0_passes_0 5 rfl rfl)
theorem dX0_passes_8 : decode cX0_passes 8 = .ok (.iload_n 2, 1) := dk_28 (dk_at dksX0_passes_0 8 rfl rfl)
theorem dX0_passes_9 : decode cX0_passes 9 = .ok (.invokestatic 249, 3) := dk_184 0 249 (dk_at dksX0_passes_0 9 rfl rfl)
theorem dX0_passes_12 : decode cX0_passes 12 = .ok (.ifCond .eq 13, 3) := dk_153 0 13 (dk_at dksX0_passes_0 12 rfl rfl)
theorem dX0_passes_15 : decode cX0_passes 15 = .ok (.iload_n 3, 1) := dk_29 (dk_at dksX0_passes_0 15 rfl rfl)
theorem dX0_passes_16 : decode cX0_passes 16 = .ok (.iconst 0, 1) := dk_3 (dk_at dksX0_passes_0 16 rfl rfl)
theorem dX0_passes_17 : decode cX0_passes 17 = .ok (.ldc 248, 2) := dk_18 248 (dk_at dksX0_passes_0 17 rfl rfl)
theorem dX0_passes_19 : decode cX0_passes 19 = .ok (.invokestatic 192, 3) := dk_184 0 192 (dk_at dksX0_passes_0 19 rfl rfl)
theorem dX0_passes_22 : decode cX0_passes 22 = .ok (.ifCond .ne 7, 3) := dk_154 0 7 (dk_at dksX0_passes_1 0 rfl rfl)
theorem dX0_passes_25 : decode cX0_passes 25 = .ok (.iconst (-1), 1) := dk_2 (dk_at dksX0_passes_1 3 rfl rfl)
theorem dX0_passes_26 : decode cX0_passes 26 = .ok (.goto 18, 3) := dk_167 0 18 (dk_at dksX0_passes_1 4 rfl rfl)
theorem dX0_passes_29 : decode cX0_passes 29 = .ok (.aload_n 0, 1) := dk_42 (dk_at dksX0_passes_1 7 rfl rfl)
theorem dX0_passes_30 : decode cX0_passes 30 = .ok (.iload_n 1, 1) := dk_27 (dk_at dksX0_passes_1 8 rfl rfl)
theorem dX0_passes_31 : decode cX0_passes 31 = .ok (.iload_n 2, 1) := dk_28 (dk_at dksX0_passes_1 9 rfl rfl)
theorem dX0_passes_32 : decode cX0_passes 32 = .ok (.iload_n 3, 1) := dk_29 (dk_at dksX0_passes_1 10 rfl rfl)
theorem dX0_passes_33 : decode cX0_passes 33 = .ok (.invokevirtual 252, 3) := dk_182 0 252 (dk_at dksX0_passes_1 11 rfl rfl)
theorem dX0_passes_36 : decode cX0_passes 36 = .ok (.ifCond .eq 7, 3) := dk_153 0 7 (dk_at dksX0_passes_1 14 rfl rfl)
theorem dX0_passes_39 : decode cX0_passes 39 = .ok (.iconst 1, 1) := dk_4 (dk_at dksX0_passes_1 17 rfl rfl)
theorem dX0_passes_40 : decode cX0_passes 40 = .ok (.goto 4, 3) := dk_167 0 4 (dk_at dksX0_passes_1 18 rfl rfl)
theorem dX0_passes_43 : decode cX0_passes 43 = .ok (.iconst 0, 1) := dk_3 (dk_at dksX0_passes_1 21 rfl rfl)
theorem dX0_passes_44 : decode cX0_passes 44 = .ok (.ireturn, 1) := dk_172 (dk_at dksX0_passes_1 22 rfl rfl)
abbrev cX0_isBroad : ByteArray := prog_1_method_21_code
def yX0_isBroad : MethodName := ⟨RX0, "isBroad", "(I)Z"⟩
def dkwX0_isBroad_0 : List UInt8 := [26, 4, 16, 99, 184, 0, 192, 172]
abbrev dktX0_isBroad_0 : List UInt8 := dkwX0_isBroad_0 ++ []
theorem dksX0_isBroad_0 : cX0_isBroad.data.toList.drop 0 = dktX0_isBroad_0 := by decide +kernel
theorem dX0_isBroad_0 : decode cX0_isBroad 0 = .ok (.iload_n 0, 1) := dk_26 (dk_at dksX0_isBroad_0 0 rfl rfl)
theorem dX0_isBroad_1 : decode cX0_isBroad 1 = .ok (.iconst 1, 1) := dk_4 (dk_at dksX0_isBroad_0 1 rfl rfl)
theorem dX0_isBroad_2 : decode cX0_isBroad 2 = .ok (.bipush 99, 2) := dk_16 99 (dk_at dksX0_isBroad_0 2 rfl rfl)
theorem dX0_isBroad_4 : decode cX0_isBroad 4 = .ok (.invokestatic 192, 3) := dk_184 0 192 (dk_at dksX0_isBroad_0 4 rfl rfl)
theorem dX0_isBroad_7 : decode cX0_isBroad 7 = .ok (.ireturn, 1) := dk_172 (dk_at dksX0_isBroad_0 7 rfl rfl)
abbrev cX0_next : ByteArray := prog_1_method_29_code
def yX0_next : MethodName := ⟨RX0, "next", "(III)I"⟩
def dkwX0_next_2 : List UInt8 := [182, 0, 252, 153, 0, 6, 21, 4, 172, 132, 4, 1, 167, 255, 229, 2, 172]
abbrev dktX0_next_2 : List UInt8 := dkwX0_next_2 ++ []
def dkwX0_next_1 : List UInt8 := [154, 0, 5, 2, 172, 29, 54, 4, 21, 4, 29, 17, 1, 144, 96, 163, 0, 23, 42, 27, 28, 21, 4]
abbrev dktX0_next_1 : List UInt8 := dkwX0_next_1 ++ dktX0_next_2
def dkwX0_next_0 : List UInt8 := [42, 27, 182, 0, 244, 153, 0, 20, 28, 184, 0, 249, 153, 0, 13, 29, 3, 18, 248, 184, 0, 192]
abbrev dktX0_next_0 : List UInt8 := dkwX0_next_0 ++ dktX0_next_1
theorem dksX0_next_0 : cX0_next.data.toList.drop 0 = dktX0_next_0 := by decide +kernel
theorem dksX0_next_1 : cX0_next.data.toList.drop 22 = dktX0_next_1 := dk_seg dksX0_next_0 22 rfl rfl
theorem dksX0_next_2 : cX0_next.data.toList.drop 45 = dktX0_next_2 := dk_seg dksX0_next_1 23 rfl rfl
theorem dX0_next_0 : decode cX0_next 0 = .ok (.aload_n 0, 1) := dk_42 (dk_at dksX0_next_0 0 rfl rfl)
theorem dX0_next_1 : decode cX0_next 1 = .ok (.iload_n 1, 1) := dk_27 (dk_at dksX0_next_0 1 rfl rfl)
theorem dX0_next_2 : decode cX0_next 2 = .ok (.invokevirtual 244, 3) := dk_182 0 244 (dk_at dksX0_next_0 2 rfl rfl)
theorem dX0_next_5 : decode cX0_next 5 = .ok (.ifCond .eq 20, 3) := dk_153 0 20 (dk_at dksX0_next_0 5 rfl rfl)
theorem dX0_next_8 : decode cX0_next 8 = .ok (.iload_n 2, 1) := dk_28 (dk_at dksX0_next_0 8 rfl rfl)
theorem dX0_next_9 : decode cX0_next 9 = .ok (.invokestatic 249, 3) := dk_184 0 249 (dk_at dksX0_next_0 9 rfl rfl)
theorem dX0_next_12 : decode cX0_next 12 = .ok (.ifCond .eq 13, 3) := dk_153 0 13 (dk_at dksX0_next_0 12 rfl rfl)
theorem dX0_next_15 : decode cX0_next 15 = .ok (.iload_n 3, 1) := dk_29 (dk_at dksX0_next_0 15 rfl rfl)
theorem dX0_next_16 : decode cX0_next 16 = .ok (.iconst 0, 1) := dk_3 (dk_at dksX0_next_0 16 rfl rfl)
theorem dX0_next_17 : decode cX0_next 17 = .ok (.ldc 248, 2) := dk_18 248 (dk_at dksX0_next_0 17 rfl rfl)
theorem dX0_next_19 : decode cX0_next 19 = .ok (.invokestatic 192, 3) := dk_184 0 192 (dk_at dksX0_next_0 19 rfl rfl)
theorem dX0_next_22 : decode cX0_next 22 = .ok (.ifCond .ne 5, 3) := dk_154 0 5 (dk_at dksX0_next_1 0 rfl rfl)
theorem dX0_next_25 : decode cX0_next 25 = .ok (.iconst (-1), 1) := dk_2 (dk_at dksX0_next_1 3 rfl rfl)
theorem dX0_next_26 : decode cX0_next 26 = .ok (.ireturn, 1) := dk_172 (dk_at dksX0_next_1 4 rfl rfl)
theorem dX0_next_27 : decode cX0_next 27 = .ok (.iload_n 3, 1) := dk_29 (dk_at dksX0_next_1 5 rfl rfl)
theorem dX0_next_28 : decode cX0_next 28 = .ok (.istore 4, 2) := dk_54 4 (dk_at dksX0_next_1 6 rfl rfl)
theorem dX0_next_30 : decode cX0_next 30 = .ok (.iload 4, 2) := dk_21 4 (dk_at dksX0_next_1 8 rfl rfl)
theorem dX0_next_32 : decode cX0_next 32 = .ok (.iload_n 3, 1) := dk_29 (dk_at dksX0_next_1 10 rfl rfl)
theorem dX0_next_33 : decode cX0_next 33 = .ok (.sipush 400, 3) := dk_17 1 144 (dk_at dksX0_next_1 11 rfl rfl)
theorem dX0_next_36 : decode cX0_next 36 = .ok (.iadd, 1) := dk_96 (dk_at dksX0_next_1 14 rfl rfl)
theorem dX0_next_37 : decode cX0_next 37 = .ok (.if_icmp .gt 23, 3) := dk_163 0 23 (dk_at dksX0_next_1 15 rfl rfl)
theorem dX0_next_40 : decode cX0_next 40 = .ok (.aload_n 0, 1) := dk_42 (dk_at dksX0_next_1 18 rfl rfl)
theorem dX0_next_41 : decode cX0_next 41 = .ok (.iload_n 1, 1) := dk_27 (dk_at dksX0_next_1 19 rfl rfl)
theorem dX0_next_42 : decode cX0_next 42 = .ok (.iload_n 2, 1) := dk_28 (dk_at dksX0_next_1 20 rfl rfl)
theorem dX0_next_43 : decode cX0_next 43 = .ok (.iload 4, 2) := dk_21 4 (dk_at dksX0_next_1 21 rfl rfl)
theorem dX0_next_45 : decode cX0_next 45 = .ok (.invokevirtual 252, 3) := dk_182 0 252 (dk_at dksX0_next_2 0 rfl rfl)
theorem dX0_next_48 : decode cX0_next 48 = .ok (.ifCond .eq 6, 3) := dk_153 0 6 (dk_at dksX0_next_2 3 rfl rfl)
theorem dX0_next_51 : decode cX0_next 51 = .ok (.iload 4, 2) := dk_21 4 (dk_at dksX0_next_2 6 rfl rfl)
theorem dX0_next_53 : decode cX0_next 53 = .ok (.ireturn, 1) := dk_172 (dk_at dksX0_next_2 8 rfl rfl)
theorem dX0_next_54 : decode cX0_next 54 = .ok (.iinc 4 1, 3) := dk_132 4 1 (dk_at dksX0_next_2 9 rfl rfl)
theorem dX0_next_57 : decode cX0_next 57 = .ok (.goto (-27), 3) := dk_167 255 229 (dk_at dksX0_next_2 12 rfl rfl)
theorem dX0_next_60 : decode cX0_next 60 = .ok (.iconst (-1), 1) := dk_2 (dk_at dksX0_next_2 15 rfl rfl)
theorem dX0_next_61 : decode cX0_next 61 = .ok (.ireturn, 1) := dk_172 (dk_at dksX0_next_2 16 rfl rfl)
abbrev cX0_often : ByteArray := prog_1_method_30_code
def yX0_often : MethodName := ⟨RX0, "often", "(IIII)I"⟩
def dkwX0_often_3 : List UInt8 := [167, 0, 4, 3, 96, 54, 5, 132, 6, 1, 167, 255, 223, 21, 5, 172]
abbrev dktX0_often_3 : List UInt8 := dkwX0_often_3 ++ []
def dkwX0_often_2 : List UInt8 := [21, 6, 29, 21, 4, 96, 162, 0, 30, 21, 5, 42, 27, 28, 21, 6, 182, 0, 252, 153, 0, 7, 4]
abbrev dktX0_often_2 : List UInt8 := dkwX0_often_2 ++ dktX0_often_3
def dkwX0_often_1 : List UInt8 := [153, 0, 15, 21, 4, 4, 17, 3, 232, 184, 0, 192, 154, 0, 5, 2, 172, 3, 54, 5, 29, 54, 6]
abbrev dktX0_often_1 : List UInt8 := dkwX0_often_1 ++ dktX0_often_2
def dkwX0_often_0 : List UInt8 := [42, 27, 182, 0, 244, 153, 0, 32, 28, 184, 0, 249, 153, 0, 25, 29, 3, 18, 248, 184, 0, 192]
abbrev dktX0_often_0 : List UInt8 := dkwX0_often_0 ++ dktX0_often_1
theorem dksX0_often_0 : cX0_often.data.toList.drop 0 = dktX0_often_0 := by decide +kernel
theorem dksX0_often_1 : cX0_often.data.toList.drop 22 = dktX0_often_1 := dk_seg dksX0_often_0 22 rfl rfl
theorem dksX0_often_2 : cX0_often.data.toList.drop 45 = dktX0_often_2 := dk_seg dksX0_often_1 23 rfl rfl
theorem dksX0_often_3 : cX0_often.data.toList.drop 68 = dktX0_often_3 := dk_seg dksX0_often_2 23 rfl rfl
theorem dX0_often_0 : decode cX0_often 0 = .ok (.aload_n 0, 1) := dk_42 (dk_at dksX0_often_0 0 rfl rfl)
theorem dX0_often_1 : decode cX0_often 1 = .ok (.iload_n 1, 1) := dk_27 (dk_at dksX0_often_0 1 rfl rfl)
theorem dX0_often_2 : decode cX0_often 2 = .ok (.invokevirtual 244, 3) := dk_182 0 244 (dk_at dksX0_often_0 2 rfl rfl)
theorem dX0_often_5 : decode cX0_often 5 = .ok (.ifCond .eq 32, 3) := dk_153 0 32 (dk_at dksX0_often_0 5 rfl rfl)
theorem dX0_often_8 : decode cX0_often 8 = .ok (.iload_n 2, 1) := dk_28 (dk_at dksX0_often_0 8 rfl rfl)
theorem dX0_often_9 : decode cX0_often 9 = .ok (.invokestatic 249, 3) := dk_184 0 249 (dk_at dksX0_often_0 9 rfl rfl)
theorem dX0_often_12 : decode cX0_often 12 = .ok (.ifCond .eq 25, 3) := dk_153 0 25 (dk_at dksX0_often_0 12 rfl rfl)
theorem dX0_often_15 : decode cX0_often 15 = .ok (.iload_n 3, 1) := dk_29 (dk_at dksX0_often_0 15 rfl rfl)
theorem dX0_often_16 : decode cX0_often 16 = .ok (.iconst 0, 1) := dk_3 (dk_at dksX0_often_0 16 rfl rfl)
theorem dX0_often_17 : decode cX0_often 17 = .ok (.ldc 248, 2) := dk_18 248 (dk_at dksX0_often_0 17 rfl rfl)
theorem dX0_often_19 : decode cX0_often 19 = .ok (.invokestatic 192, 3) := dk_184 0 192 (dk_at dksX0_often_0 19 rfl rfl)
theorem dX0_often_22 : decode cX0_often 22 = .ok (.ifCond .eq 15, 3) := dk_153 0 15 (dk_at dksX0_often_1 0 rfl rfl)
theorem dX0_often_25 : decode cX0_often 25 = .ok (.iload 4, 2) := dk_21 4 (dk_at dksX0_often_1 3 rfl rfl)
theorem dX0_often_27 : decode cX0_often 27 = .ok (.iconst 1, 1) := dk_4 (dk_at dksX0_often_1 5 rfl rfl)
theorem dX0_often_28 : decode cX0_often 28 = .ok (.sipush 1000, 3) := dk_17 3 232 (dk_at dksX0_often_1 6 rfl rfl)
theorem dX0_often_31 : decode cX0_often 31 = .ok (.invokestatic 192, 3) := dk_184 0 192 (dk_at dksX0_often_1 9 rfl rfl)
theorem dX0_often_34 : decode cX0_often 34 = .ok (.ifCond .ne 5, 3) := dk_154 0 5 (dk_at dksX0_often_1 12 rfl rfl)
theorem dX0_often_37 : decode cX0_often 37 = .ok (.iconst (-1), 1) := dk_2 (dk_at dksX0_often_1 15 rfl rfl)
theorem dX0_often_38 : decode cX0_often 38 = .ok (.ireturn, 1) := dk_172 (dk_at dksX0_often_1 16 rfl rfl)
theorem dX0_often_39 : decode cX0_often 39 = .ok (.iconst 0, 1) := dk_3 (dk_at dksX0_often_1 17 rfl rfl)
theorem dX0_often_40 : decode cX0_often 40 = .ok (.istore 5, 2) := dk_54 5 (dk_at dksX0_often_1 18 rfl rfl)
theorem dX0_often_42 : decode cX0_often 42 = .ok (.iload_n 3, 1) := dk_29 (dk_at dksX0_often_1 20 rfl rfl)
theorem dX0_often_43 : decode cX0_often 43 = .ok (.istore 6, 2) := dk_54 6 (dk_at dksX0_often_1 21 rfl rfl)
theorem dX0_often_45 : decode cX0_often 45 = .ok (.iload 6, 2) := dk_21 6 (dk_at dksX0_often_2 0 rfl rfl)
theorem dX0_often_47 : decode cX0_often 47 = .ok (.iload_n 3, 1) := dk_29 (dk_at dksX0_often_2 2 rfl rfl)
theorem dX0_often_48 : decode cX0_often 48 = .ok (.iload 4, 2) := dk_21 4 (dk_at dksX0_often_2 3 rfl rfl)
theorem dX0_often_50 : decode cX0_often 50 = .ok (.iadd, 1) := dk_96 (dk_at dksX0_often_2 5 rfl rfl)
theorem dX0_often_51 : decode cX0_often 51 = .ok (.if_icmp .ge 30, 3) := dk_162 0 30 (dk_at dksX0_often_2 6 rfl rfl)
theorem dX0_often_54 : decode cX0_often 54 = .ok (.iload 5, 2) := dk_21 5 (dk_at dksX0_often_2 9 rfl rfl)
theorem dX0_often_56 : decode cX0_often 56 = .ok (.aload_n 0, 1) := dk_42 (dk_at dksX0_often_2 11 rfl rfl)
theorem dX0_often_57 : decode cX0_often 57 = .ok (.iload_n 1, 1) := dk_27 (dk_at dksX0_often_2 12 rfl rfl)
theorem dX0_often_58 : decode cX0_often 58 = .ok (.iload_n 2, 1) := dk_28 (dk_at dksX0_often_2 13 rfl rfl)
theorem dX0_often_59 : decode cX0_often 59 = .ok (.iload 6, 2) := dk_21 6 (dk_at dksX0_often_2 14 rfl rfl)
theorem dX0_often_61 : decode cX0_often 61 = .ok (.invokevirtual 252, 3) := dk_182 0 252 (dk_at dksX0_often_2 16 rfl rfl)
theorem dX0_often_64 : decode cX0_often 64 = .ok (.ifCond .eq 7, 3) := dk_153 0 7 (dk_at dksX0_often_2 19 rfl rfl)
theorem dX0_often_67 : decode cX0_often 67 = .ok (.iconst 1, 1) := dk_4 (dk_at dksX0_often_2 22 rfl rfl)
theorem dX0_often_68 : decode cX0_often 68 = .ok (.goto 4, 3) := dk_167 0 4 (dk_at dksX0_often_3 0 rfl rfl)
theorem dX0_often_71 : decode cX0_often 71 = .ok (.iconst 0, 1) := dk_3 (dk_at dksX0_often_3 3 rfl rfl)
theorem dX0_often_72 : decode cX0_often 72 = .ok (.iadd, 1) := dk_96 (dk_at dksX0_often_3 4 rfl rfl)
theorem dX0_often_73 : decode cX0_often 73 = .ok (.istore 5, 2) := dk_54 5 (dk_at dksX0_often_3 5 rfl rfl)
theorem dX0_often_75 : decode cX0_often 75 = .ok (.iinc 6 1, 3) := dk_132 6 1 (dk_at dksX0_often_3 7 rfl rfl)
theorem dX0_often_78 : decode cX0_often 78 = .ok (.goto (-33), 3) := dk_167 255 223 (dk_at dksX0_often_3 10 rfl rfl)
theorem dX0_often_81 : decode cX0_often 81 = .ok (.iload 5, 2) := dk_21 5 (dk_at dksX0_often_3 13 rfl rfl)
theorem dX0_often_83 : decode cX0_often 83 = .ok (.ireturn, 1) := dk_172 (dk_at dksX0_often_3 15 rfl rfl)
abbrev cX0_wide : ByteArray := prog_1_method_32_code
def yX0_wide : MethodName := ⟨RX0, "wide", "(II)I"⟩
def dkwX0_wide_2 : List UInt8 := [96, 163, 0, 21, 42, 27, 28, 29, 182, 1, 6, 153, 0, 5, 29, 172, 132, 3, 1, 167, 255, 226, 2, 172]
abbrev dktX0_wide_2 : List UInt8 := dkwX0_wide_2 ++ []
def dkwX0_wide_1 : List UInt8 := [154, 0, 5, 2, 172, 42, 180, 0, 69, 180, 1, 3, 62, 29, 42, 180, 0, 69, 180, 1, 3, 17, 1, 144]
abbrev dktX0_wide_1 : List UInt8 := dkwX0_wide_1 ++ dktX0_wide_2
def dkwX0_wide_0 : List UInt8 := [27, 4, 161, 0, 23, 27, 4, 42, 182, 0, 186, 120, 162, 0, 13, 28, 4, 16, 99, 184, 0, 192]
abbrev dktX0_wide_0 : List UInt8 := dkwX0_wide_0 ++ dktX0_wide_1
theorem dksX0_wide_0 : cX0_wide.data.toList.drop 0 = dktX0_wide_0 := by decide +kernel
theorem dksX0_wide_1 : cX0_wide.data.toList.drop 22 = dktX0_wide_1 := dk_seg dksX0_wide_0 22 rfl rfl
theorem dksX0_wide_2 : cX0_wide.data.toList.drop 46 = dktX0_wide_2 := dk_seg dksX0_wide_1 24 rfl rfl
theorem dX0_wide_0 : decode cX0_wide 0 = .ok (.iload_n 1, 1) := dk_27 (dk_at dksX0_wide_0 0 rfl rfl)
theorem dX0_wide_1 : decode cX0_wide 1 = .ok (.iconst 1, 1) := dk_4 (dk_at dksX0_wide_0 1 rfl rfl)
theorem dX0_wide_2 : decode cX0_wide 2 = .ok (.if_icmp .lt 23, 3) := dk_161 0 23 (dk_at dksX0_wide_0 2 rfl rfl)
theorem dX0_wide_5 : decode cX0_wide 5 = .ok (.iload_n 1, 1) := dk_27 (dk_at dksX0_wide_0 5 rfl rfl)
theorem dX0_wide_6 : decode cX0_wide 6 = .ok (.iconst 1, 1) := dk_4 (dk_at dksX0_wide_0 6 rfl rfl)
theorem dX0_wide_7 : decode cX0_wide 7 = .ok (.aload_n 0, 1) := dk_42 (dk_at dksX0_wide_0 7 rfl rfl)
theorem dX0_wide_8 : decode cX0_wide 8 = .ok (.invokevirtual 186, 3) := dk_182 0 186 (dk_at dksX0_wide_0 8 rfl rfl)
theorem dX0_wide_11 : decode cX0_wide 11 = .ok (.ishl, 1) := dk_120 (dk_at dksX0_wide_0 11 rfl rfl)
theorem dX0_wide_12 : decode cX0_wide 12 = .ok (.if_icmp .ge 13, 3) := dk_162 0 13 (dk_at dksX0_wide_0 12 rfl rfl)
theorem dX0_wide_15 : decode cX0_wide 15 = .ok (.iload_n 2, 1) := dk_28 (dk_at dksX0_wide_0 15 rfl rfl)
theorem dX0_wide_16 : decode cX0_wide 16 = .ok (.iconst 1, 1) := dk_4 (dk_at dksX0_wide_0 16 rfl rfl)
theorem dX0_wide_17 : decode cX0_wide 17 = .ok (.bipush 99, 2) := dk_16 99 (dk_at dksX0_wide_0 17 rfl rfl)
theorem dX0_wide_19 : decode cX0_wide 19 = .ok (.invokestatic 192, 3) := dk_184 0 192 (dk_at dksX0_wide_0 19 rfl rfl)
theorem dX0_wide_22 : decode cX0_wide 22 = .ok (.ifCond .ne 5, 3) := dk_154 0 5 (dk_at dksX0_wide_1 0 rfl rfl)
theorem dX0_wide_25 : decode cX0_wide 25 = .ok (.iconst (-1), 1) := dk_2 (dk_at dksX0_wide_1 3 rfl rfl)
theorem dX0_wide_26 : decode cX0_wide 26 = .ok (.ireturn, 1) := dk_172 (dk_at dksX0_wide_1 4 rfl rfl)
theorem dX0_wide_27 : decode cX0_wide 27 = .ok (.aload_n 0, 1) := dk_42 (dk_at dksX0_wide_1 5 rfl rfl)
theorem dX0_wide_28 : decode cX0_wide 28 = .ok (.getfield 69, 3) := dk_180 0 69 (dk_at dksX0_wide_1 6 rfl rfl)
theorem dX0_wide_31 : decode cX0_wide 31 = .ok (.getfield 259, 3) := dk_180 1 3 (dk_at dksX0_wide_1 9 rfl rfl)
theorem dX0_wide_34 : decode cX0_wide 34 = .ok (.istore_n 3, 1) := dk_62 (dk_at dksX0_wide_1 12 rfl rfl)
theorem dX0_wide_35 : decode cX0_wide 35 = .ok (.iload_n 3, 1) := dk_29 (dk_at dksX0_wide_1 13 rfl rfl)
theorem dX0_wide_36 : decode cX0_wide 36 = .ok (.aload_n 0, 1) := dk_42 (dk_at dksX0_wide_1 14 rfl rfl)
theorem dX0_wide_37 : decode cX0_wide 37 = .ok (.getfield 69, 3) := dk_180 0 69 (dk_at dksX0_wide_1 15 rfl rfl)
theorem dX0_wide_40 : decode cX0_wide 40 = .ok (.getfield 259, 3) := dk_180 1 3 (dk_at dksX0_wide_1 18 rfl rfl)
theorem dX0_wide_43 : decode cX0_wide 43 = .ok (.sipush 400, 3) := dk_17 1 144 (dk_at dksX0_wide_1 21 rfl rfl)
theorem dX0_wide_46 : decode cX0_wide 46 = .ok (.iadd, 1) := dk_96 (dk_at dksX0_wide_2 0 rfl rfl)
theorem dX0_wide_47 : decode cX0_wide 47 = .ok (.if_icmp .gt 21, 3) := dk_163 0 21 (dk_at dksX0_wide_2 1 rfl rfl)
theorem dX0_wide_50 : decode cX0_wide 50 = .ok (.aload_n 0, 1) := dk_42 (dk_at dksX0_wide_2 4 rfl rfl)
theorem dX0_wide_51 : decode cX0_wide 51 = .ok (.iload_n 1, 1) := dk_27 (dk_at dksX0_wide_2 5 rfl rfl)
theorem dX0_wide_52 : decode cX0_wide 52 = .ok (.iload_n 2, 1) := dk_28 (dk_at dksX0_wide_2 6 rfl rfl)
theorem dX0_wide_53 : decode cX0_wide 53 = .ok (.iload_n 3, 1) := dk_29 (dk_at dksX0_wide_2 7 rfl rfl)
theorem dX0_wide_54 : decode cX0_wide 54 = .ok (.invokevirtual 262, 3) := dk_182 1 6 (dk_at dksX0_wide_2 8 rfl rfl)
theorem dX0_wide_57 : decode cX0_wide 57 = .ok (.ifCond .eq 5, 3) := dk_153 0 5 (dk_at dksX0_wide_2 11 rfl rfl)
theorem dX0_wide_60 : decode cX0_wide 60 = .ok (.iload_n 3, 1) := dk_29 (dk_at dksX0_wide_2 14 rfl rfl)
theorem dX0_wide_61 : decode cX0_wide 61 = .ok (.ireturn, 1) := dk_172 (dk_at dksX0_wide_2 15 rfl rfl)
theorem dX0_wide_62 : decode cX0_wide 62 = .ok (.iinc 3 1, 3) := dk_132 3 1 (dk_at dksX0_wide_2 16 rfl rfl)
theorem dX0_wide_65 : decode cX0_wide 65 = .ok (.goto (-30), 3) := dk_167 255 226 (dk_at dksX0_wide_2 19 rfl rfl)
theorem dX0_wide_68 : decode cX0_wide 68 = .ok (.iconst (-1), 1) := dk_2 (dk_at dksX0_wide_2 22 rfl rfl)
theorem dX0_wide_69 : decode cX0_wide 69 = .ok (.ireturn, 1) := dk_172 (dk_at dksX0_wide_2 23 rfl rfl)
abbrev cX0_areWide : ByteArray := prog_1_method_31_code
def yX0_areWide : MethodName := ⟨RX0, "areWide", "(III)Z"⟩
def dkwX0_areWide_1 : List UInt8 := [29, 182, 0, 231, 28, 162, 0, 5, 3, 172, 132, 4, 1, 167, 255, 222, 4, 172]
abbrev dktX0_areWide_1 : List UInt8 := dkwX0_areWide_1 ++ []
def dkwX0_areWide_0 : List UInt8 := [3, 54, 4, 21, 4, 42, 182, 0, 186, 162, 0, 31, 27, 21, 4, 184, 0, 255, 153, 0, 16, 42, 21, 4]
abbrev dktX0_areWide_0 : List UInt8 := dkwX0_areWide_0 ++ dktX0_areWide_1
theorem dksX0_areWide_0 : cX0_areWide.data.toList.drop 0 = dktX0_areWide_0 := by decide +kernel
theorem dksX0_areWide_1 : cX0_areWide.data.toList.drop 24 = dktX0_areWide_1 := dk_seg dksX0_areWide_0 24 rfl rfl
theorem dX0_areWide_0 : decode cX0_areWide 0 = .ok (.iconst 0, 1) := dk_3 (dk_at dksX0_areWide_0 0 rfl rfl)
theorem dX0_areWide_1 : decode cX0_areWide 1 = .ok (.istore 4, 2) := dk_54 4 (dk_at dksX0_areWide_0 1 rfl rfl)
theorem dX0_areWide_3 : decode cX0_areWide 3 = .ok (.iload 4, 2) := dk_21 4 (dk_at dksX0_areWide_0 3 rfl rfl)
theorem dX0_areWide_5 : decode cX0_areWide 5 = .ok (.aload_n 0, 1) := dk_42 (dk_at dksX0_areWide_0 5 rfl rfl)
theorem dX0_areWide_6 : decode cX0_areWide 6 = .ok (.invokevirtual 186, 3) := dk_182 0 186 (dk_at dksX0_areWide_0 6 rfl rfl)
theorem dX0_areWide_9 : decode cX0_areWide 9 = .ok (.if_icmp .ge 31, 3) := dk_162 0 31 (dk_at dksX0_areWide_0 9 rfl rfl)
theorem dX0_areWide_12 : decode cX0_areWide 12 = .ok (.iload_n 1, 1) := dk_27 (dk_at dksX0_areWide_0 12 rfl rfl)
theorem dX0_areWide_13 : decode cX0_areWide 13 = .ok (.iload 4, 2) := dk_21 4 (dk_at dksX0_areWide_0 13 rfl rfl)
theorem dX0_areWide_15 : decode cX0_areWide 15 = .ok (.invokestatic 255, 3) := dk_184 0 255 (dk_at dksX0_areWide_0 15 rfl rfl)
theorem dX0_areWide_18 : decode cX0_areWide 18 = .ok (.ifCond .eq 16, 3) := dk_153 0 16 (dk_at dksX0_areWide_0 18 rfl rfl)
theorem dX0_areWide_21 : decode cX0_areWide 21 = .ok (.aload_n 0, 1) := dk_42 (dk_at dksX0_areWide_0 21 rfl rfl)
theorem dX0_areWide_22 : decode cX0_areWide 22 = .ok (.iload 4, 2) := dk_21 4 (dk_at dksX0_areWide_0 22 rfl rfl)
theorem dX0_areWide_24 : decode cX0_areWide 24 = .ok (.iload_n 3, 1) := dk_29 (dk_at dksX0_areWide_1 0 rfl rfl)
theorem dX0_areWide_25 : decode cX0_areWide 25 = .ok (.invokevirtual 231, 3) := dk_182 0 231 (dk_at dksX0_areWide_1 1 rfl rfl)
theorem dX0_areWide_28 : decode cX0_areWide 28 = .ok (.iload_n 2, 1) := dk_28 (dk_at dksX0_areWide_1 4 rfl rfl)
theorem dX0_areWide_29 : decode cX0_areWide 29 = .ok (.if_icmp .ge 5, 3) := dk_162 0 5 (dk_at dksX0_areWide_1 5 rfl rfl)
theorem dX0_areWide_32 : decode cX0_areWide 32 = .ok (.iconst 0, 1) := dk_3 (dk_at dksX0_areWide_1 8 rfl rfl)
theorem dX0_areWide_33 : decode cX0_areWide 33 = .ok (.ireturn, 1) := dk_172 (dk_at dksX0_areWide_1 9 rfl rfl)
theorem dX0_areWide_34 : decode cX0_areWide 34 = .ok (.iinc 4 1, 3) := dk_132 4 1 (dk_at dksX0_areWide_1 10 rfl rfl)
theorem dX0_areWide_37 : decode cX0_areWide 37 = .ok (.goto (-34), 3) := dk_167 255 222 (dk_at dksX0_areWide_1 13 rfl rfl)
theorem dX0_areWide_40 : decode cX0_areWide 40 = .ok (.iconst 1, 1) := dk_4 (dk_at dksX0_areWide_1 16 rfl rfl)
theorem dX0_areWide_41 : decode cX0_areWide 41 = .ok (.ireturn, 1) := dk_172 (dk_at dksX0_areWide_1 17 rfl rfl)
abbrev cX0_has : ByteArray := prog_1_method_2_code
def yX0_has : MethodName := ⟨RX0, "has", "(II)Z"⟩
def dkwX0_has_0 : List UInt8 := [26, 27, 122, 4, 126, 4, 160, 0, 7, 4, 167, 0, 4, 3, 172]
abbrev dktX0_has_0 : List UInt8 := dkwX0_has_0 ++ []
theorem dksX0_has_0 : cX0_has.data.toList.drop 0 = dktX0_has_0 := by decide +kernel
theorem dX0_has_0 : decode cX0_has 0 = .ok (.iload_n 0, 1) := dk_26 (dk_at dksX0_has_0 0 rfl rfl)
theorem dX0_has_1 : decode cX0_has 1 = .ok (.iload_n 1, 1) := dk_27 (dk_at dksX0_has_0 1 rfl rfl)
theorem dX0_has_2 : decode cX0_has 2 = .ok (.ishr, 1) := dk_122 (dk_at dksX0_has_0 2 rfl rfl)
theorem dX0_has_3 : decode cX0_has 3 = .ok (.iconst 1, 1) := dk_4 (dk_at dksX0_has_0 3 rfl rfl)
theorem dX0_has_4 : decode cX0_has 4 = .ok (.iand, 1) := dk_126 (dk_at dksX0_has_0 4 rfl rfl)
theorem dX0_has_5 : decode cX0_has 5 = .ok (.iconst 1, 1) := dk_4 (dk_at dksX0_has_0 5 rfl rfl)
theorem dX0_has_6 : decode cX0_has 6 = .ok (.if_icmp .ne 7, 3) := dk_160 0 7 (dk_at dksX0_has_0 6 rfl rfl)
theorem dX0_has_9 : decode cX0_has 9 = .ok (.iconst 1, 1) := dk_4 (dk_at dksX0_has_0 9 rfl rfl)
theorem dX0_has_10 : decode cX0_has 10 = .ok (.goto 4, 3) := dk_167 0 4 (dk_at dksX0_has_0 10 rfl rfl)
theorem dX0_has_13 : decode cX0_has 13 = .ok (.iconst 0, 1) := dk_3 (dk_at dksX0_has_0 13 rfl rfl)
theorem dX0_has_14 : decode cX0_has 14 = .ok (.ireturn, 1) := dk_172 (dk_at dksX0_has_0 14 rfl rfl)
abbrev cX0_has_2 : ByteArray := prog_1_method_33_code
def yX0_has_2 : MethodName := ⟨RX0, "has", "(I)I"⟩
def dkwX0_has_2_6 : List UInt8 := [180, 0, 162, 172, 42, 180, 0, 159, 172, 2, 172]
abbrev dktX0_has_2_6 : List UInt8 := dkwX0_has_2_6 ++ []
def dkwX0_has_2_5 : List UInt8 := [180, 1, 3, 163, 0, 7, 4, 167, 0, 4, 3, 96, 61, 132, 3, 1, 167, 255, 218, 28, 172, 42]
abbrev dktX0_has_2_5 : List UInt8 := dkwX0_has_2_5 ++ dktX0_has_2_6
def dkwX0_has_2_4 : List UInt8 := [62, 29, 42, 182, 0, 189, 162, 0, 36, 28, 42, 180, 0, 69, 180, 1, 9, 29, 46, 42, 180, 0, 69]
abbrev dktX0_has_2_4 : List UInt8 := dkwX0_has_2_4 ++ dktX0_has_2_5
def dkwX0_has_2_3 : List UInt8 := [180, 0, 69, 180, 1, 3, 16, 24, 108, 172, 42, 180, 0, 69, 180, 1, 3, 16, 24, 112, 172, 3, 61, 3]
abbrev dktX0_has_2_3 : List UInt8 := dkwX0_has_2_3 ++ dktX0_has_2_4
def dkwX0_has_2_2 : List UInt8 := [42, 182, 0, 183, 172, 42, 182, 0, 186, 172, 42, 182, 0, 189, 172, 42, 180, 0, 69, 180, 1, 3, 172, 42]
abbrev dktX0_has_2_2 : List UInt8 := dkwX0_has_2_2 ++ dktX0_has_2_3
def dkwX0_has_2_1 : List UInt8 := [170, 0, 0, 0, 0, 0, 153, 0, 0, 0, 0, 0, 0, 0, 8, 0, 0, 0, 51, 0, 0, 0, 56, 0, 0, 0, 61, 0, 0, 0, 66, 0, 0, 0, 74, 0, 0, 0, 85, 0, 0, 0, 96, 0, 0, 0, 143, 0, 0, 0, 148]
abbrev dktX0_has_2_1 : List UInt8 := dkwX0_has_2_1 ++ dktX0_has_2_2
def dkwX0_has_2_0 : List UInt8 := [27]
abbrev dktX0_has_2_0 : List UInt8 := dkwX0_has_2_0 ++ dktX0_has_2_1
theorem dksX0_has_2_0 : cX0_has_2.data.toList.drop 0 = dktX0_has_2_0 := by decide +kernel
theorem dksX0_has_2_1 : cX0_has_2.data.toList.drop 1 = dktX0_has_2_1 := dk_seg dksX0_has_2_0 1 rfl rfl
theorem dksX0_has_2_2 : cX0_has_2.data.toList.drop 52 = dktX0_has_2_2 := dk_seg dksX0_has_2_1 51 rfl rfl
theorem dksX0_has_2_3 : cX0_has_2.data.toList.drop 76 = dktX0_has_2_3 := dk_seg dksX0_has_2_2 24 rfl rfl
theorem dksX0_has_2_4 : cX0_has_2.data.toList.drop 100 = dktX0_has_2_4 := dk_seg dksX0_has_2_3 24 rfl rfl
theorem dksX0_has_2_5 : cX0_has_2.data.toList.drop 123 = dktX0_has_2_5 := dk_seg dksX0_has_2_4 23 rfl rfl
theorem dksX0_has_2_6 : cX0_has_2.data.toList.drop 145 = dktX0_has_2_6 := dk_seg dksX0_has_2_5 22 rfl rfl
theorem dX0_has_2_0 : decode cX0_has_2 0 = .ok (.iload_n 1, 1) := dk_27 (dk_at dksX0_has_2_0 0 rfl rfl)
theorem dX0_has_2_1 : decode cX0_has_2 1 = .ok (.tableswitch 153 0 8 #[51, 56, 61, 66, 74, 85, 96, 143, 148], 51) := by decide +kernel
theorem dX0_has_2_52 : decode cX0_has_2 52 = .ok (.aload_n 0, 1) := dk_42 (dk_at dksX0_has_2_2 0 rfl rfl)
theorem dX0_has_2_53 : decode cX0_has_2 53 = .ok (.invokevirtual 183, 3) := dk_182 0 183 (dk_at dksX0_has_2_2 1 rfl rfl)
theorem dX0_has_2_56 : decode cX0_has_2 56 = .ok (.ireturn, 1) := dk_172 (dk_at dksX0_has_2_2 4 rfl rfl)
theorem dX0_has_2_57 : decode cX0_has_2 57 = .ok (.aload_n 0, 1) := dk_42 (dk_at dksX0_has_2_2 5 rfl rfl)
theorem dX0_has_2_58 : decode cX0_has_2 58 = .ok (.invokevirtual 186, 3) := dk_182 0 186 (dk_at dksX0_has_2_2 6 rfl rfl)
theorem dX0_has_2_61 : decode cX0_has_2 61 = .ok (.ireturn, 1) := dk_172 (dk_at dksX0_has_2_2 9 rfl rfl)
theorem dX0_has_2_62 : decode cX0_has_2 62 = .ok (.aload_n 0, 1) := dk_42 (dk_at dksX0_has_2_2 10 rfl rfl)
theorem dX0_has_2_63 : decode cX0_has_2 63 = .ok (.invokevirtual 189, 3) := dk_182 0 189 (dk_at dksX0_has_2_2 11 rfl rfl)
theorem dX0_has_2_66 : decode cX0_has_2 66 = .ok (.ireturn, 1) := dk_172 (dk_at dksX0_has_2_2 14 rfl rfl)
theorem dX0_has_2_67 : decode cX0_has_2 67 = .ok (.aload_n 0, 1) := dk_42 (dk_at dksX0_has_2_2 15 rfl rfl)
theorem dX0_has_2_68 : decode cX0_has_2 68 = .ok (.getfield 69, 3) := dk_180 0 69 (dk_at dksX0_has_2_2 16 rfl rfl)
theorem dX0_has_2_71 : decode cX0_has_2 71 = .ok (.getfield 259, 3) := dk_180 1 3 (dk_at dksX0_has_2_2 19 rfl rfl)
theorem dX0_has_2_74 : decode cX0_has_2 74 = .ok (.ireturn, 1) := dk_172 (dk_at dksX0_has_2_2 22 rfl rfl)
theorem dX0_has_2_75 : decode cX0_has_2 75 = .ok (.aload_n 0, 1) := dk_42 (dk_at dksX0_has_2_2 23 rfl rfl)
theorem dX0_has_2_76 : decode cX0_has_2 76 = .ok (.getfield 69, 3) := dk_180 0 69 (dk_at dksX0_has_2_3 0 rfl rfl)
theorem dX0_has_2_79 : decode cX0_has_2 79 = .ok (.getfield 259, 3) := dk_180 1 3 (dk_at dksX0_has_2_3 3 rfl rfl)
theorem dX0_has_2_82 : decode cX0_has_2 82 = .ok (.bipush 24, 2) := dk_16 24 (dk_at dksX0_has_2_3 6 rfl rfl)
theorem dX0_has_2_84 : decode cX0_has_2 84 = .ok (.idiv, 1) := dk_108 (dk_at dksX0_has_2_3 8 rfl rfl)
theorem dX0_has_2_85 : decode cX0_has_2 85 = .ok (.ireturn, 1) := dk_172 (dk_at dksX0_has_2_3 9 rfl rfl)
theorem dX0_has_2_86 : decode cX0_has_2 86 = .ok (.aload_n 0, 1) := dk_42 (dk_at dksX0_has_2_3 10 rfl rfl)
theorem dX0_has_2_87 : decode cX0_has_2 87 = .ok (.getfield 69, 3) := dk_180 0 69 (dk_at dksX0_has_2_3 11 rfl rfl)
theorem dX0_has_2_90 : decode cX0_has_2 90 = .ok (.getfield 259, 3) := dk_180 1 3 (dk_at dksX0_has_2_3 14 rfl rfl)
theorem dX0_has_2_93 : decode cX0_has_2 93 = .ok (.bipush 24, 2) := dk_16 24 (dk_at dksX0_has_2_3 17 rfl rfl)
theorem dX0_has_2_95 : decode cX0_has_2 95 = .ok (.irem, 1) := dk_112 (dk_at dksX0_has_2_3 19 rfl rfl)
theorem dX0_has_2_96 : decode cX0_has_2 96 = .ok (.ireturn, 1) := dk_172 (dk_at dksX0_has_2_3 20 rfl rfl)
theorem dX0_has_2_97 : decode cX0_has_2 97 = .ok (.iconst 0, 1) := dk_3 (dk_at dksX0_has_2_3 21 rfl rfl)
theorem dX0_has_2_98 : decode cX0_has_2 98 = .ok (.istore_n 2, 1) := dk_61 (dk_at dksX0_has_2_3 22 rfl rfl)
theorem dX0_has_2_99 : decode cX0_has_2 99 = .ok (.iconst 0, 1) := dk_3 (dk_at dksX0_has_2_3 23 rfl rfl)
theorem dX0_has_2_100 : decode cX0_has_2 100 = .ok (.istore_n 3, 1) := dk_62 (dk_at dksX0_has_2_4 0 rfl rfl)
theorem dX0_has_2_101 : decode cX0_has_2 101 = .ok (.iload_n 3, 1) := dk_29 (dk_at dksX0_has_2_4 1 rfl rfl)
theorem dX0_has_2_102 : decode cX0_has_2 102 = .ok (.aload_n 0, 1) := dk_42 (dk_at dksX0_has_2_4 2 rfl rfl)
theorem dX0_has_2_103 : decode cX0_has_2 103 = .ok (.invokevirtual 189, 3) := dk_182 0 189 (dk_at dksX0_has_2_4 3 rfl rfl)
theorem dX0_has_2_106 : decode cX0_has_2 106 = .ok (.if_icmp .ge 36, 3) := dk_162 0 36 (dk_at dksX0_has_2_4 6 rfl rfl)
theorem dX0_has_2_109 : decode cX0_has_2 109 = .ok (.iload_n 2, 1) := dk_28 (dk_at dksX0_has_2_4 9 rfl rfl)
theorem dX0_has_2_110 : decode cX0_has_2 110 = .ok (.aload_n 0, 1) := dk_42 (dk_at dksX0_has_2_4 10 rfl rfl)
theorem dX0_has_2_111 : decode cX0_has_2 111 = .ok (.getfield 69, 3) := dk_180 0 69 (dk_at dksX0_has_2_4 11 rfl rfl)
theorem dX0_has_2_114 : decode cX0_has_2 114 = .ok (.getfield 265, 3) := dk_180 1 9 (dk_at dksX0_has_2_4 14 rfl rfl)
theorem dX0_has_2_117 : decode cX0_has_2 117 = .ok (.iload_n 3, 1) := dk_29 (dk_at dksX0_has_2_4 17 rfl rfl)
theorem dX0_has_2_118 : decode cX0_has_2 118 = .ok (.iaload, 1) := dk_46 (dk_at dksX0_has_2_4 18 rfl rfl)
theorem dX0_has_2_119 : decode cX0_has_2 119 = .ok (.aload_n 0, 1) := dk_42 (dk_at dksX0_has_2_4 19 rfl rfl)
theorem dX0_has_2_120 : decode cX0_has_2 120 = .ok (.getfield 69, 3) := dk_180 0 69 (dk_at dksX0_has_2_4 20 rfl rfl)
theorem dX0_has_2_123 : decode cX0_has_2 123 = .ok (.getfield 259, 3) := dk_180 1 3 (dk_at dksX0_has_2_5 0 rfl rfl)
theorem dX0_has_2_126 : decode cX0_has_2 126 = .ok (.if_icmp .gt 7, 3) := dk_163 0 7 (dk_at dksX0_has_2_5 3 rfl rfl)
theorem dX0_has_2_129 : decode cX0_has_2 129 = .ok (.iconst 1, 1) := dk_4 (dk_at dksX0_has_2_5 6 rfl rfl)
theorem dX0_has_2_130 : decode cX0_has_2 130 = .ok (.goto 4, 3) := dk_167 0 4 (dk_at dksX0_has_2_5 7 rfl rfl)
theorem dX0_has_2_133 : decode cX0_has_2 133 = .ok (.iconst 0, 1) := dk_3 (dk_at dksX0_has_2_5 10 rfl rfl)
theorem dX0_has_2_134 : decode cX0_has_2 134 = .ok (.iadd, 1) := dk_96 (dk_at dksX0_has_2_5 11 rfl rfl)
theorem dX0_has_2_135 : decode cX0_has_2 135 = .ok (.istore_n 2, 1) := dk_61 (dk_at dksX0_has_2_5 12 rfl rfl)
theorem dX0_has_2_136 : decode cX0_has_2 136 = .ok (.iinc 3 1, 3) := dk_132 3 1 (dk_at dksX0_has_2_5 13 rfl rfl)
theorem dX0_has_2_139 : decode cX0_has_2 139 = .ok (.goto (-38), 3) := dk_167 255 218 (dk_at dksX0_has_2_5 16 rfl rfl)
theorem dX0_has_2_142 : decode cX0_has_2 142 = .ok (.iload_n 2, 1) := dk_28 (dk_at dksX0_has_2_5 19 rfl rfl)
theorem dX0_has_2_143 : decode cX0_has_2 143 = .ok (.ireturn, 1) := dk_172 (dk_at dksX0_has_2_5 20 rfl rfl)
theorem dX0_has_2_144 : decode cX0_has_2 144 = .ok (.aload_n 0, 1) := dk_42 (dk_at dksX0_has_2_5 21 rfl rfl)
theorem dX0_has_2_145 : decode cX0_has_2 145 = .ok (.getfield 162, 3) := dk_180 0 162 (dk_at dksX0_has_2_6 0 rfl rfl)
theorem dX0_has_2_148 : decode cX0_has_2 148 = .ok (.ireturn, 1) := dk_172 (dk_at dksX0_has_2_6 3 rfl rfl)
theorem dX0_has_2_149 : decode cX0_has_2 149 = .ok (.aload_n 0, 1) := dk_42 (dk_at dksX0_has_2_6 4 rfl rfl)
theorem dX0_has_2_150 : decode cX0_has_2 150 = .ok (.getfield 159, 3) := dk_180 0 159 (dk_at dksX0_has_2_6 5 rfl rfl)
theorem dX0_has_2_153 : decode cX0_has_2 153 = .ok (.ireturn, 1) := dk_172 (dk_at dksX0_has_2_6 8 rfl rfl)
theorem dX0_has_2_154 : decode cX0_has_2 154 = .ok (.iconst (-1), 1) := dk_2 (dk_at dksX0_has_2_6 9 rfl rfl)
theorem dX0_has_2_155 : decode cX0_has_2 155 = .ok (.ireturn, 1) := dk_172 (dk_at dksX0_has_2_6 10 rfl rfl)
abbrev cX0_placeMany : ByteArray := prog_1_method_15_code
def yX0_placeMany : MethodName := ⟨RX0, "placeMany", "()I"⟩
def dkwX0_placeMany_0 : List UInt8 := [42, 180, 0, 31, 180, 0, 168, 185, 0, 172, 1, 0, 172]
abbrev dktX0_placeMany_0 : List UInt8 := dkwX0_placeMany_0 ++ []
theorem dksX0_placeMany_0 : cX0_placeMany.data.toList.drop 0 = dktX0_placeMany_0 := by decide +kernel
theorem dX0_placeMany_0 : decode cX0_placeMany 0 = .ok (.aload_n 0, 1) := dk_42 (dk_at dksX0_placeMany_0 0 rfl rfl)
theorem dX0_placeMany_1 : decode cX0_placeMany 1 = .ok (.getfield 31, 3) := dk_180 0 31 (dk_at dksX0_placeMany_0 1 rfl rfl)
theorem dX0_placeMany_4 : decode cX0_placeMany 4 = .ok (.getfield 168, 3) := dk_180 0 168 (dk_at dksX0_placeMany_0 4 rfl rfl)
theorem dX0_placeMany_7 : decode cX0_placeMany 7 = .ok (.invokeinterface 172 1, 5) := by decide +kernel
theorem dX0_placeMany_12 : decode cX0_placeMany 12 = .ok (.ireturn, 1) := dk_172 (dk_at dksX0_placeMany_0 12 rfl rfl)
abbrev cX0_letter : ByteArray := prog_1_method_34_code
def yX0_letter : MethodName := ⟨RX0, "letter", "(III)I"⟩
def dkwX0_letter_3 : List UInt8 := [162, 0, 21, 25, 4, 28, 185, 1, 12, 2, 0, 192, 1, 16, 29, 182, 1, 18, 167, 0, 4, 2, 172]
abbrev dktX0_letter_3 : List UInt8 := dkwX0_letter_3 ++ []
def dkwX0_letter_2 : List UInt8 := [180, 0, 177, 167, 0, 10, 42, 180, 0, 31, 180, 0, 180, 58, 4, 28, 25, 4, 185, 0, 172, 1, 0]
abbrev dktX0_letter_2 : List UInt8 := dkwX0_letter_2 ++ dktX0_letter_3
def dkwX0_letter_1 : List UInt8 := [27, 154, 0, 13, 42, 180, 0, 31, 180, 0, 168, 167, 0, 25, 27, 4, 160, 0, 13, 42, 180, 0, 31]
abbrev dktX0_letter_1 : List UInt8 := dkwX0_letter_1 ++ dktX0_letter_2
def dkwX0_letter_0 : List UInt8 := [29, 3, 8, 184, 0, 192, 153, 0, 16, 27, 3, 5, 184, 0, 192, 153, 0, 7, 28, 156, 0, 5, 2, 172]
abbrev dktX0_letter_0 : List UInt8 := dkwX0_letter_0 ++ dktX0_letter_1
theorem dksX0_letter_0 : cX0_letter.data.toList.drop 0 = dktX0_letter_0 := by decide +kernel
theorem dksX0_letter_1 : cX0_letter.data.toList.drop 24 = dktX0_letter_1 := dk_seg dksX0_letter_0 24 rfl rfl
theorem dksX0_letter_2 : cX0_letter.data.toList.drop 47 = dktX0_letter_2 := dk_seg dksX0_letter_1 23 rfl rfl
theorem dksX0_letter_3 : cX0_letter.data.toList.drop 70 = dktX0_letter_3 := dk_seg dksX0_letter_2 23 rfl rfl
theorem dX0_letter_0 : decode cX0_letter 0 = .ok (.iload_n 3, 1) := dk_29 (dk_at dksX0_letter_0 0 rfl rfl)
theorem dX0_letter_1 : decode cX0_letter 1 = .ok (.iconst 0, 1) := dk_3 (dk_at dksX0_letter_0 1 rfl rfl)
theorem dX0_letter_2 : decode cX0_letter 2 = .ok (.iconst 5, 1) := dk_8 (dk_at dksX0_letter_0 2 rfl rfl)
theorem dX0_letter_3 : decode cX0_letter 3 = .ok (.invokestatic 192, 3) := dk_184 0 192 (dk_at dksX0_letter_0 3 rfl rfl)
theorem dX0_letter_6 : decode cX0_letter 6 = .ok (.ifCond .eq 16, 3) := dk_153 0 16 (dk_at dksX0_letter_0 6 rfl rfl)
theorem dX0_letter_9 : decode cX0_letter 9 = .ok (.iload_n 1, 1) := dk_27 (dk_at dksX0_letter_0 9 rfl rfl)
theorem dX0_letter_10 : decode cX0_letter 10 = .ok (.iconst 0, 1) := dk_3 (dk_at dksX0_letter_0 10 rfl rfl)
theorem dX0_letter_11 : decode cX0_letter 11 = .ok (.iconst 2, 1) := dk_5 (dk_at dksX0_letter_0 11 rfl rfl)
theorem dX0_letter_12 : decode cX0_letter 12 = .ok (.invokestatic 192, 3) := dk_184 0 192 (dk_at dksX0_letter_0 12 rfl rfl)
theorem dX0_letter_15 : decode cX0_letter 15 = .ok (.ifCond .eq 7, 3) := dk_153 0 7 (dk_at dksX0_letter_0 15 rfl rfl)
theorem dX0_letter_18 : decode cX0_letter 18 = .ok (.iload_n 2, 1) := dk_28 (dk_at dksX0_letter_0 18 rfl rfl)
theorem dX0_letter_19 : decode cX0_letter 19 = .ok (.ifCond .ge 5, 3) := dk_156 0 5 (dk_at dksX0_letter_0 19 rfl rfl)
theorem dX0_letter_22 : decode cX0_letter 22 = .ok (.iconst (-1), 1) := dk_2 (dk_at dksX0_letter_0 22 rfl rfl)
theorem dX0_letter_23 : decode cX0_letter 23 = .ok (.ireturn, 1) := dk_172 (dk_at dksX0_letter_0 23 rfl rfl)
theorem dX0_letter_24 : decode cX0_letter 24 = .ok (.iload_n 1, 1) := dk_27 (dk_at dksX0_letter_1 0 rfl rfl)
theorem dX0_letter_25 : decode cX0_letter 25 = .ok (.ifCond .ne 13, 3) := dk_154 0 13 (dk_at dksX0_letter_1 1 rfl rfl)
theorem dX0_letter_28 : decode cX0_letter 28 = .ok (.aload_n 0, 1) := dk_42 (dk_at dksX0_letter_1 4 rfl rfl)
theorem dX0_letter_29 : decode cX0_letter 29 = .ok (.getfield 31, 3) := dk_180 0 31 (dk_at dksX0_letter_1 5 rfl rfl)
theorem dX0_letter_32 : decode cX0_letter 32 = .ok (.getfield 168, 3) := dk_180 0 168 (dk_at dksX0_letter_1 8 rfl rfl)
theorem dX0_letter_35 : decode cX0_letter 35 = .ok (.goto 25, 3) := dk_167 0 25 (dk_at dksX0_letter_1 11 rfl rfl)
theorem dX0_letter_38 : decode cX0_letter 38 = .ok (.iload_n 1, 1) := dk_27 (dk_at dksX0_letter_1 14 rfl rfl)
theorem dX0_letter_39 : decode cX0_letter 39 = .ok (.iconst 1, 1) := dk_4 (dk_at dksX0_letter_1 15 rfl rfl)
theorem dX0_letter_40 : decode cX0_letter 40 = .ok (.if_icmp .ne 13, 3) := dk_160 0 13 (dk_at dksX0_letter_1 16 rfl rfl)
theorem dX0_letter_43 : decode cX0_letter 43 = .ok (.aload_n 0, 1) := dk_42 (dk_at dksX0_letter_1 19 rfl rfl)
theorem dX0_letter_44 : decode cX0_letter 44 = .ok (.getfield 31, 3) := dk_180 0 31 (dk_at dksX0_letter_1 20 rfl rfl)
theorem dX0_letter_47 : decode cX0_letter 47 = .ok (.getfield 177, 3) := dk_180 0 177 (dk_at dksX0_letter_2 0 rfl rfl)
theorem dX0_letter_50 : decode cX0_letter 50 = .ok (.goto 10, 3) := dk_167 0 10 (dk_at dksX0_letter_2 3 rfl rfl)
theorem dX0_letter_53 : decode cX0_letter 53 = .ok (.aload_n 0, 1) := dk_42 (dk_at dksX0_letter_2 6 rfl rfl)
theorem dX0_letter_54 : decode cX0_letter 54 = .ok (.getfield 31, 3) := dk_180 0 31 (dk_at dksX0_letter_2 7 rfl rfl)
theorem dX0_letter_57 : decode cX0_letter 57 = .ok (.getfield 180, 3) := dk_180 0 180 (dk_at dksX0_letter_2 10 rfl rfl)
theorem dX0_letter_60 : decode cX0_letter 60 = .ok (.astore 4, 2) := dk_58 4 (dk_at dksX0_letter_2 13 rfl rfl)
theorem dX0_letter_62 : decode cX0_letter 62 = .ok (.iload_n 2, 1) := dk_28 (dk_at dksX0_letter_2 15 rfl rfl)
theorem dX0_letter_63 : decode cX0_letter 63 = .ok (.aload 4, 2) := dk_25 4 (dk_at dksX0_letter_2 16 rfl rfl)
theorem dX0_letter_65 : decode cX0_letter 65 = .ok (.invokeinterface 172 1, 5) := by decide +kernel
theorem dX0_letter_70 : decode cX0_letter 70 = .ok (.if_icmp .ge 21, 3) := dk_162 0 21 (dk_at dksX0_letter_3 0 rfl rfl)
theorem dX0_letter_73 : decode cX0_letter 73 = .ok (.aload 4, 2) := dk_25 4 (dk_at dksX0_letter_3 3 rfl rfl)
theorem dX0_letter_75 : decode cX0_letter 75 = .ok (.iload_n 2, 1) := dk_28 (dk_at dksX0_letter_3 5 rfl rfl)
theorem dX0_letter_76 : decode cX0_letter 76 = .ok (.invokeinterface 268 2, 5) := by decide +kernel
theorem dX0_letter_81 : decode cX0_letter 81 = .ok (.checkcast 272, 3) := dk_192 1 16 (dk_at dksX0_letter_3 11 rfl rfl)
theorem dX0_letter_84 : decode cX0_letter 84 = .ok (.iload_n 3, 1) := dk_29 (dk_at dksX0_letter_3 14 rfl rfl)
theorem dX0_letter_85 : decode cX0_letter 85 = .ok (.invokevirtual 274, 3) := dk_182 1 18 (dk_at dksX0_letter_3 15 rfl rfl)
theorem dX0_letter_88 : decode cX0_letter 88 = .ok (.goto 4, 3) := dk_167 0 4 (dk_at dksX0_letter_3 18 rfl rfl)
theorem dX0_letter_91 : decode cX0_letter 91 = .ok (.iconst (-1), 1) := dk_2 (dk_at dksX0_letter_3 21 rfl rfl)
theorem dX0_letter_92 : decode cX0_letter 92 = .ok (.ireturn, 1) := dk_172 (dk_at dksX0_letter_3 22 rfl rfl)
abbrev cX0_street : ByteArray := prog_1_method_35_code
def yX0_street : MethodName := ⟨RX0, "street", "(II)I"⟩
def dkwX0_street_4 : List UInt8 := [182, 0, 209, 172, 42, 27, 42, 180, 0, 69, 180, 1, 3, 182, 0, 231, 172, 2, 172]
abbrev dktX0_street_4 : List UInt8 := dkwX0_street_4 ++ []
def dkwX0_street_3 : List UInt8 := [180, 0, 225, 27, 46, 172, 42, 27, 42, 180, 0, 69, 180, 0, 225, 27, 46, 42, 180, 0, 69, 180, 1, 3]
abbrev dktX0_street_3 : List UInt8 := dkwX0_street_3 ++ dktX0_street_4
def dkwX0_street_2 : List UInt8 := [45, 180, 1, 21, 172, 45, 180, 1, 24, 172, 45, 180, 0, 238, 172, 45, 180, 0, 200, 172, 42, 180, 0, 69]
abbrev dktX0_street_2 : List UInt8 := dkwX0_street_2 ++ dktX0_street_3
def dkwX0_street_1 : List UInt8 := [170, 0, 0, 0, 0, 0, 0, 109, 0, 0, 0, 0, 0, 0, 0, 6, 0, 0, 0, 44, 0, 0, 0, 49, 0, 0, 0, 54, 0, 0, 0, 59, 0, 0, 0, 64, 0, 0, 0, 74, 0, 0, 0, 96]
abbrev dktX0_street_1 : List UInt8 := dkwX0_street_1 ++ dktX0_street_2
def dkwX0_street_0 : List UInt8 := [42, 27, 182, 0, 244, 154, 0, 5, 2, 172, 42, 180, 0, 31, 27, 182, 0, 196, 78, 28]
abbrev dktX0_street_0 : List UInt8 := dkwX0_street_0 ++ dktX0_street_1
theorem dksX0_street_0 : cX0_street.data.toList.drop 0 = dktX0_street_0 := by decide +kernel
theorem dksX0_street_1 : cX0_street.data.toList.drop 20 = dktX0_street_1 := dk_seg dksX0_street_0 20 rfl rfl
theorem dksX0_street_2 : cX0_street.data.toList.drop 64 = dktX0_street_2 := dk_seg dksX0_street_1 44 rfl rfl
theorem dksX0_street_3 : cX0_street.data.toList.drop 88 = dktX0_street_3 := dk_seg dksX0_street_2 24 rfl rfl
theorem dksX0_street_4 : cX0_street.data.toList.drop 112 = dktX0_street_4 := dk_seg dksX0_street_3 24 rfl rfl
theorem dX0_street_0 : decode cX0_street 0 = .ok (.aload_n 0, 1) := dk_42 (dk_at dksX0_street_0 0 rfl rfl)
theorem dX0_street_1 : decode cX0_street 1 = .ok (.iload_n 1, 1) := dk_27 (dk_at dksX0_street_0 1 rfl rfl)
theorem dX0_street_2 : decode cX0_street 2 = .ok (.invokevirtual 244, 3) := dk_182 0 244 (dk_at dksX0_street_0 2 rfl rfl)
theorem dX0_street_5 : decode cX0_street 5 = .ok (.ifCond .ne 5, 3) := dk_154 0 5 (dk_at dksX0_street_0 5 rfl rfl)
theorem dX0_street_8 : decode cX0_street 8 = .ok (.iconst (-1), 1) := dk_2 (dk_at dksX0_street_0 8 rfl rfl)
theorem dX0_street_9 : decode cX0_street 9 = .ok (.ireturn, 1) := dk_172 (dk_at dksX0_street_0 9 rfl rfl)
theorem dX0_street_10 : decode cX0_street 10 = .ok (.aload_n 0, 1) := dk_42 (dk_at dksX0_street_0 10 rfl rfl)
theorem dX0_street_11 : decode cX0_street 11 = .ok (.getfield 31, 3) := dk_180 0 31 (dk_at dksX0_street_0 11 rfl rfl)
theorem dX0_street_14 : decode cX0_street 14 = .ok (.iload_n 1, 1) := dk_27 (dk_at dksX0_street_0 14 rfl rfl)
theorem dX0_street_15 : decode cX0_street 15 = .ok (.invokevirtual 196, 3) := dk_182 0 196 (dk_at dksX0_street_0 15 rfl rfl)
theorem dX0_street_18 : decode cX0_street 18 = .ok (.astore_n 3, 1) := dk_78 (dk_at dksX0_street_0 18 rfl rfl)
theorem dX0_street_19 : decode cX0_street 19 = .ok (.iload_n 2, 1) := dk_28 (dk_at dksX0_street_0 19 rfl rfl)
theorem dX0_street_20 : decode cX0_street 20 = .ok (.tableswitch 109 0 6 #[44, 49, 54, 59, 64, 74, 96], 44) := by decide +kernel
theorem dX0_street_64 : decode cX0_street 64 = .ok (.aload_n 3, 1) := dk_45 (dk_at dksX0_street_2 0 rfl rfl)
theorem dX0_street_65 : decode cX0_street 65 = .ok (.getfield 277, 3) := dk_180 1 21 (dk_at dksX0_street_2 1 rfl rfl)
theorem dX0_street_68 : decode cX0_street 68 = .ok (.ireturn, 1) := dk_172 (dk_at dksX0_street_2 4 rfl rfl)
theorem dX0_street_69 : decode cX0_street 69 = .ok (.aload_n 3, 1) := dk_45 (dk_at dksX0_street_2 5 rfl rfl)
theorem dX0_street_70 : decode cX0_street 70 = .ok (.getfield 280, 3) := dk_180 1 24 (dk_at dksX0_street_2 6 rfl rfl)
theorem dX0_street_73 : decode cX0_street 73 = .ok (.ireturn, 1) := dk_172 (dk_at dksX0_street_2 9 rfl rfl)
theorem dX0_street_74 : decode cX0_street 74 = .ok (.aload_n 3, 1) := dk_45 (dk_at dksX0_street_2 10 rfl rfl)
theorem dX0_street_75 : decode cX0_street 75 = .ok (.getfield 238, 3) := dk_180 0 238 (dk_at dksX0_street_2 11 rfl rfl)
theorem dX0_street_78 : decode cX0_street 78 = .ok (.ireturn, 1) := dk_172 (dk_at dksX0_street_2 14 rfl rfl)
theorem dX0_street_79 : decode cX0_street 79 = .ok (.aload_n 3, 1) := dk_45 (dk_at dksX0_street_2 15 rfl rfl)
theorem dX0_street_80 : decode cX0_street 80 = .ok (.getfield 200, 3) := dk_180 0 200 (dk_at dksX0_street_2 16 rfl rfl)
theorem dX0_street_83 : decode cX0_street 83 = .ok (.ireturn, 1) := dk_172 (dk_at dksX0_street_2 19 rfl rfl)
theorem dX0_street_84 : decode cX0_street 84 = .ok (.aload_n 0, 1) := dk_42 (dk_at dksX0_street_2 20 rfl rfl)
theorem dX0_street_85 : decode cX0_street 85 = .ok (.getfield 69, 3) := dk_180 0 69 (dk_at dksX0_street_2 21 rfl rfl)
theorem dX0_street_88 : decode cX0_street 88 = .ok (.getfield 225, 3) := dk_180 0 225 (dk_at dksX0_street_3 0 rfl rfl)
theorem dX0_street_91 : decode cX0_street 91 = .ok (.iload_n 1, 1) := dk_27 (dk_at dksX0_street_3 3 rfl rfl)
theorem dX0_street_92 : decode cX0_street 92 = .ok (.iaload, 1) := dk_46 (dk_at dksX0_street_3 4 rfl rfl)
theorem dX0_street_93 : decode cX0_street 93 = .ok (.ireturn, 1) := dk_172 (dk_at dksX0_street_3 5 rfl rfl)
theorem dX0_street_94 : decode cX0_street 94 = .ok (.aload_n 0, 1) := dk_42 (dk_at dksX0_street_3 6 rfl rfl)
theorem dX0_street_95 : decode cX0_street 95 = .ok (.iload_n 1, 1) := dk_27 (dk_at dksX0_street_3 7 rfl rfl)
theorem dX0_street_96 : decode cX0_street 96 = .ok (.aload_n 0, 1) := dk_42 (dk_at dksX0_street_3 8 rfl rfl)
theorem dX0_street_97 : decode cX0_street 97 = .ok (.getfield 69, 3) := dk_180 0 69 (dk_at dksX0_street_3 9 rfl rfl)
theorem dX0_street_100 : decode cX0_street 100 = .ok (.getfield 225, 3) := dk_180 0 225 (dk_at dksX0_street_3 12 rfl rfl)
theorem dX0_street_103 : decode cX0_street 103 = .ok (.iload_n 1, 1) := dk_27 (dk_at dksX0_street_3 15 rfl rfl)
theorem dX0_street_104 : decode cX0_street 104 = .ok (.iaload, 1) := dk_46 (dk_at dksX0_street_3 16 rfl rfl)
theorem dX0_street_105 : decode cX0_street 105 = .ok (.aload_n 0, 1) := dk_42 (dk_at dksX0_street_3 17 rfl rfl)
theorem dX0_street_106 : decode cX0_street 106 = .ok (.getfield 69, 3) := dk_180 0 69 (dk_at dksX0_street_3 18 rfl rfl)
theorem dX0_street_109 : decode cX0_street 109 = .ok (.getfield 259, 3) := dk_180 1 3 (dk_at dksX0_street_3 21 rfl rfl)
theorem dX0_street_112 : decode cX0_street 112 = .ok (.invokevirtual 209, 3) := dk_182 0 209 (dk_at dksX0_street_4 0 rfl rfl)
theorem dX0_street_115 : decode cX0_street 115 = .ok (.ireturn, 1) := dk_172 (dk_at dksX0_street_4 3 rfl rfl)
theorem dX0_street_116 : decode cX0_street 116 = .ok (.aload_n 0, 1) := dk_42 (dk_at dksX0_street_4 4 rfl rfl)
theorem dX0_street_117 : decode cX0_street 117 = .ok (.iload_n 1, 1) := dk_27 (dk_at dksX0_street_4 5 rfl rfl)
theorem dX0_street_118 : decode cX0_street 118 = .ok (.aload_n 0, 1) := dk_42 (dk_at dksX0_street_4 6 rfl rfl)
theorem dX0_street_119 : decode cX0_street 119 = .ok (.getfield 69, 3) := dk_180 0 69 (dk_at dksX0_street_4 7 rfl rfl)
theorem dX0_street_122 : decode cX0_street 122 = .ok (.getfield 259, 3) := dk_180 1 3 (dk_at dksX0_street_4 10 rfl rfl)
theorem dX0_street_125 : decode cX0_street 125 = .ok (.invokevirtual 231, 3) := dk_182 0 231 (dk_at dksX0_street_4 13 rfl rfl)
theorem dX0_street_128 : decode cX0_street 128 = .ok (.ireturn, 1) := dk_172 (dk_at dksX0_street_4 16 rfl rfl)
theorem dX0_street_129 : decode cX0_street 129 = .ok (.iconst (-1), 1) := dk_2 (dk_at dksX0_street_4 17 rfl rfl)
theorem dX0_street_130 : decode cX0_street 130 = .ok (.ireturn, 1) := dk_172 (dk_at dksX0_street_4 18 rfl rfl)
abbrev cX0_walker : ByteArray := prog_1_method_36_code
def yX0_walker : MethodName := ⟨RX0, "walker", "(II)I"⟩
def dkwX0_walker_3 : List UInt8 := [180, 0, 69, 180, 1, 9, 27, 46, 167, 0, 4, 2, 172]
abbrev dktX0_walker_3 : List UInt8 := dkwX0_walker_3 ++ []
def dkwX0_walker_2 : List UInt8 := [5, 160, 0, 15, 42, 180, 0, 69, 180, 1, 41, 27, 46, 167, 0, 21, 28, 6, 160, 0, 15, 42]
abbrev dktX0_walker_2 : List UInt8 := dkwX0_walker_2 ++ dktX0_walker_3
def dkwX0_walker_1 : List UInt8 := [180, 1, 34, 167, 0, 55, 28, 4, 160, 0, 15, 42, 180, 0, 69, 180, 1, 39, 27, 46, 167, 0, 38, 28]
abbrev dktX0_walker_1 : List UInt8 := dkwX0_walker_1 ++ dktX0_walker_2
def dkwX0_walker_0 : List UInt8 := [42, 27, 182, 1, 27, 154, 0, 5, 2, 172, 28, 154, 0, 17, 42, 180, 0, 31, 27, 182, 1, 30]
abbrev dktX0_walker_0 : List UInt8 := dkwX0_walker_0 ++ dktX0_walker_1
theorem dksX0_walker_0 : cX0_walker.data.toList.drop 0 = dktX0_walker_0 := by decide +kernel
theorem dksX0_walker_1 : cX0_walker.data.toList.drop 22 = dktX0_walker_1 := dk_seg dksX0_walker_0 22 rfl rfl
theorem dksX0_walker_2 : cX0_walker.data.toList.drop 46 = dktX0_walker_2 := dk_seg dksX0_walker_1 24 rfl rfl
theorem dksX0_walker_3 : cX0_walker.data.toList.drop 68 = dktX0_walker_3 := dk_seg dksX0_walker_2 22 rfl rfl
theorem dX0_walker_0 : decode cX0_walker 0 = .ok (.aload_n 0, 1) := dk_42 (dk_at dksX0_walker_0 0 rfl rfl)
theorem dX0_walker_1 : decode cX0_walker 1 = .ok (.iload_n 1, 1) := dk_27 (dk_at dksX0_walker_0 1 rfl rfl)
theorem dX0_walker_2 : decode cX0_walker 2 = .ok (.invokevirtual 283, 3) := dk_182 1 27 (dk_at dksX0_walker_0 2 rfl rfl)
theorem dX0_walker_5 : decode cX0_walker 5 = .ok (.ifCond .ne 5, 3) := dk_154 0 5 (dk_at dksX0_walker_0 5 rfl rfl)
theorem dX0_walker_8 : decode cX0_walker 8 = .ok (.iconst (-1), 1) := dk_2 (dk_at dksX0_walker_0 8 rfl rfl)
theorem dX0_walker_9 : decode cX0_walker 9 = .ok (.ireturn, 1) := dk_172 (dk_at dksX0_walker_0 9 rfl rfl)
theorem dX0_walker_10 : decode cX0_walker 10 = .ok (.iload_n 2, 1) := dk_28 (dk_at dksX0_walker_0 10 rfl rfl)
theorem dX0_walker_11 : decode cX0_walker 11 = .ok (.ifCond .ne 17, 3) := dk_154 0 17 (dk_at dksX0_walker_0 11 rfl rfl)
theorem dX0_walker_14 : decode cX0_walker 14 = .ok (.aload_n 0, 1) := dk_42 (dk_at dksX0_walker_0 14 rfl rfl)
theorem dX0_walker_15 : decode cX0_walker 15 = .ok (.getfield 31, 3) := dk_180 0 31 (dk_at dksX0_walker_0 15 rfl rfl)
theorem dX0_walker_18 : decode cX0_walker 18 = .ok (.iload_n 1, 1) := dk_27 (dk_at dksX0_walker_0 18 rfl rfl)
theorem dX0_walker_19 : decode cX0_walker 19 = .ok (.invokevirtual 286, 3) := dk_182 1 30 (dk_at dksX0_walker_0 19 rfl rfl)
theorem dX0_walker_22 : decode cX0_walker 22 = .ok (.getfield 290, 3) := dk_180 1 34 (dk_at dksX0_walker_1 0 rfl rfl)
theorem dX0_walker_25 : decode cX0_walker 25 = .ok (.goto 55, 3) := dk_167 0 55 (dk_at dksX0_walker_1 3 rfl rfl)
theorem dX0_walker_28 : decode cX0_walker 28 = .ok (.iload_n 2, 1) := dk_28 (dk_at dksX0_walker_1 6 rfl rfl)
theorem dX0_walker_29 : decode cX0_walker 29 = .ok (.iconst 1, 1) := dk_4 (dk_at dksX0_walker_1 7 rfl rfl)
theorem dX0_walker_30 : decode cX0_walker 30 = .ok (.if_icmp .ne 15, 3) := dk_160 0 15 (dk_at dksX0_walker_1 8 rfl rfl)
theorem dX0_walker_33 : decode cX0_walker 33 = .ok (.aload_n 0, 1) := dk_42 (dk_at dksX0_walker_1 11 rfl rfl)
theorem dX0_walker_34 : decode cX0_walker 34 = .ok (.getfield 69, 3) := dk_180 0 69 (dk_at dksX0_walker_1 12 rfl rfl)
theorem dX0_walker_37 : decode cX0_walker 37 = .ok (.getfield 295, 3) := dk_180 1 39 (dk_at dksX0_walker_1 15 rfl rfl)
theorem dX0_walker_40 : decode cX0_walker 40 = .ok (.iload_n 1, 1) := dk_27 (dk_at dksX0_walker_1 18 rfl rfl)
theorem dX0_walker_41 : decode cX0_walker 41 = .ok (.iaload, 1) := dk_46 (dk_at dksX0_walker_1 19 rfl rfl)
theorem dX0_walker_42 : decode cX0_walker 42 = .ok (.goto 38, 3) := dk_167 0 38 (dk_at dksX0_walker_1 20 rfl rfl)
theorem dX0_walker_45 : decode cX0_walker 45 = .ok (.iload_n 2, 1) := dk_28 (dk_at dksX0_walker_1 23 rfl rfl)
theorem dX0_walker_46 : decode cX0_walker 46 = .ok (.iconst 2, 1) := dk_5 (dk_at dksX0_walker_2 0 rfl rfl)
theorem dX0_walker_47 : decode cX0_walker 47 = .ok (.if_icmp .ne 15, 3) := dk_160 0 15 (dk_at dksX0_walker_2 1 rfl rfl)
theorem dX0_walker_50 : decode cX0_walker 50 = .ok (.aload_n 0, 1) := dk_42 (dk_at dksX0_walker_2 4 rfl rfl)
theorem dX0_walker_51 : decode cX0_walker 51 = .ok (.getfield 69, 3) := dk_180 0 69 (dk_at dksX0_walker_2 5 rfl rfl)
theorem dX0_walker_54 : decode cX0_walker 54 = .ok (.getfield 297, 3) := dk_180 1 41 (dk_at dksX0_walker_2 8 rfl rfl)
theorem dX0_walker_57 : decode cX0_walker 57 = .ok (.iload_n 1, 1) := dk_27 (dk_at dksX0_walker_2 11 rfl rfl)
theorem dX0_walker_58 : decode cX0_walker 58 = .ok (.iaload, 1) := dk_46 (dk_at dksX0_walker_2 12 rfl rfl)
theorem dX0_walker_59 : decode cX0_walker 59 = .ok (.goto 21, 3) := dk_167 0 21 (dk_at dksX0_walker_2 13 rfl rfl)
theorem dX0_walker_62 : decode cX0_walker 62 = .ok (.iload_n 2, 1) := dk_28 (dk_at dksX0_walker_2 16 rfl rfl)
theorem dX0_walker_63 : decode cX0_walker 63 = .ok (.iconst 3, 1) := dk_6 (dk_at dksX0_walker_2 17 rfl rfl)
theorem dX0_walker_64 : decode cX0_walker 64 = .ok (.if_icmp .ne 15, 3) := dk_160 0 15 (dk_at dksX0_walker_2 18 rfl rfl)
theorem dX0_walker_67 : decode cX0_walker 67 = .ok (.aload_n 0, 1) := dk_42 (dk_at dksX0_walker_2 21 rfl rfl)
theorem dX0_walker_68 : decode cX0_walker 68 = .ok (.getfield 69, 3) := dk_180 0 69 (dk_at dksX0_walker_3 0 rfl rfl)
theorem dX0_walker_71 : decode cX0_walker 71 = .ok (.getfield 265, 3) := dk_180 1 9 (dk_at dksX0_walker_3 3 rfl rfl)
theorem dX0_walker_74 : decode cX0_walker 74 = .ok (.iload_n 1, 1) := dk_27 (dk_at dksX0_walker_3 6 rfl rfl)
theorem dX0_walker_75 : decode cX0_walker 75 = .ok (.iaload, 1) := dk_46 (dk_at dksX0_walker_3 7 rfl rfl)
theorem dX0_walker_76 : decode cX0_walker 76 = .ok (.goto 4, 3) := dk_167 0 4 (dk_at dksX0_walker_3 8 rfl rfl)
theorem dX0_walker_79 : decode cX0_walker 79 = .ok (.iconst (-1), 1) := dk_2 (dk_at dksX0_walker_3 11 rfl rfl)
theorem dX0_walker_80 : decode cX0_walker 80 = .ok (.ireturn, 1) := dk_172 (dk_at dksX0_walker_3 12 rfl rfl)
abbrev cX0_isWalker : ByteArray := prog_1_method_20_code
def yX0_isWalker : MethodName := ⟨RX0, "isWalker", "(I)Z"⟩
def dkwX0_isWalker_0 : List UInt8 := [27, 155, 0, 15, 27, 42, 182, 0, 189, 162, 0, 7, 4, 167, 0, 4, 3, 172]
abbrev dktX0_isWalker_0 : List UInt8 := dkwX0_isWalker_0 ++ []
theorem dksX0_isWalker_0 : cX0_isWalker.data.toList.drop 0 = dktX0_isWalker_0 := by decide +kernel
theorem dX0_isWalker_0 : decode cX0_isWalker 0 = .ok (.iload_n 1, 1) := dk_27 (dk_at dksX0_isWalker_0 0 rfl rfl)
theorem dX0_isWalker_1 : decode cX0_isWalker 1 = .ok (.ifCond .lt 15, 3) := dk_155 0 15 (dk_at dksX0_isWalker_0 1 rfl rfl)
theorem dX0_isWalker_4 : decode cX0_isWalker 4 = .ok (.iload_n 1, 1) := dk_27 (dk_at dksX0_isWalker_0 4 rfl rfl)
theorem dX0_isWalker_5 : decode cX0_isWalker 5 = .ok (.aload_n 0, 1) := dk_42 (dk_at dksX0_isWalker_0 5 rfl rfl)
theorem dX0_isWalker_6 : decode cX0_isWalker 6 = .ok (.invokevirtual 189, 3) := dk_182 0 189 (dk_at dksX0_isWalker_0 6 rfl rfl)
theorem dX0_isWalker_9 : decode cX0_isWalker 9 = .ok (.if_icmp .ge 7, 3) := dk_162 0 7 (dk_at dksX0_isWalker_0 9 rfl rfl)
theorem dX0_isWalker_12 : decode cX0_isWalker 12 = .ok (.iconst 1, 1) := dk_4 (dk_at dksX0_isWalker_0 12 rfl rfl)
theorem dX0_isWalker_13 : decode cX0_isWalker 13 = .ok (.goto 4, 3) := dk_167 0 4 (dk_at dksX0_isWalker_0 13 rfl rfl)
theorem dX0_isWalker_16 : decode cX0_isWalker 16 = .ok (.iconst 0, 1) := dk_3 (dk_at dksX0_isWalker_0 16 rfl rfl)
theorem dX0_isWalker_17 : decode cX0_isWalker 17 = .ok (.ireturn, 1) := dk_172 (dk_at dksX0_isWalker_0 17 rfl rfl)
abbrev cX0_way : ByteArray := prog_1_method_43_code
def yX0_way : MethodName := ⟨RX0, "way", "(II)I"⟩
def dkwX0_way_4 : List UInt8 := [180, 0, 91, 42, 180, 1, 60, 4, 100, 28, 16, 100, 100, 100, 46, 167, 0, 4, 2, 172]
abbrev dktX0_way_4 : List UInt8 := dkwX0_way_4 ++ []
def dkwX0_way_3 : List UInt8 := [100, 28, 100, 46, 167, 0, 39, 28, 16, 100, 16, 99, 42, 180, 1, 60, 96, 184, 0, 192, 153, 0, 22, 42]
abbrev dktX0_way_3 : List UInt8 := dkwX0_way_3 ++ dktX0_way_4
def dkwX0_way_2 : List UInt8 := [172, 28, 3, 42, 180, 1, 60, 4, 100, 184, 0, 192, 153, 0, 19, 42, 180, 0, 88, 42, 180, 1, 60, 4]
abbrev dktX0_way_2 : List UInt8 := dkwX0_way_2 ++ dktX0_way_3
def dkwX0_way_1 : List UInt8 := [180, 0, 81, 42, 180, 0, 69, 180, 1, 41, 27, 46, 46, 172, 28, 16, 20, 160, 0, 8, 42, 180, 1, 60]
abbrev dktX0_way_1 : List UInt8 := dkwX0_way_1 ++ dktX0_way_2
def dkwX0_way_0 : List UInt8 := [42, 27, 182, 1, 27, 153, 0, 11, 42, 27, 182, 1, 73, 154, 0, 5, 2, 172, 28, 2, 160, 0, 18, 42]
abbrev dktX0_way_0 : List UInt8 := dkwX0_way_0 ++ dktX0_way_1
theorem dksX0_way_0 : cX0_way.data.toList.drop 0 = dktX0_way_0 := by decide +kernel
theorem dksX0_way_1 : cX0_way.data.toList.drop 24 = dktX0_way_1 := dk_seg dksX0_way_0 24 rfl rfl
theorem dksX0_way_2 : cX0_way.data.toList.drop 48 = dktX0_way_2 := dk_seg dksX0_way_1 24 rfl rfl
theorem dksX0_way_3 : cX0_way.data.toList.drop 72 = dktX0_way_3 := dk_seg dksX0_way_2 24 rfl rfl
theorem dksX0_way_4 : cX0_way.data.toList.drop 96 = dktX0_way_4 := dk_seg dksX0_way_3 24 rfl rfl
theorem dX0_way_0 : decode cX0_way 0 = .ok (.aload_n 0, 1) := dk_42 (dk_at dksX0_way_0 0 rfl rfl)
theorem dX0_way_1 : decode cX0_way 1 = .ok (.iload_n 1, 1) := dk_27 (dk_at dksX0_way_0 1 rfl rfl)
theorem dX0_way_2 : decode cX0_way 2 = .ok (.invokevirtual 283, 3) := dk_182 1 27 (dk_at dksX0_way_0 2 rfl rfl)
theorem dX0_way_5 : decode cX0_way 5 = .ok (.ifCond .eq 11, 3) := dk_153 0 11 (dk_at dksX0_way_0 5 rfl rfl)
theorem dX0_way_8 : decode cX0_way 8 = .ok (.aload_n 0, 1) := dk_42 (dk_at dksX0_way_0 8 rfl rfl)
theorem dX0_way_9 : decode cX0_way 9 = .ok (.iload_n 1, 1) := dk_27 (dk_at dksX0_way_0 9 rfl rfl)
theorem dX0_way_10 : decode cX0_way 10 = .ok (.invokevirtual 329, 3) := dk_182 1 73 (dk_at dksX0_way_0 10 rfl rfl)
theorem dX0_way_13 : decode cX0_way 13 = .ok (.ifCond .ne 5, 3) := dk_154 0 5 (dk_at dksX0_way_0 13 rfl rfl)
theorem dX0_way_16 : decode cX0_way 16 = .ok (.iconst (-1), 1) := dk_2 (dk_at dksX0_way_0 16 rfl rfl)
theorem dX0_way_17 : decode cX0_way 17 = .ok (.ireturn, 1) := dk_172 (dk_at dksX0_way_0 17 rfl rfl)
theorem dX0_way_18 : decode cX0_way 18 = .ok (.iload_n 2, 1) := dk_28 (dk_at dksX0_way_0 18 rfl rfl)
theorem dX0_way_19 : decode cX0_way 19 = .ok (.iconst (-1), 1) := dk_2 (dk_at dksX0_way_0 19 rfl rfl)
theorem dX0_way_20 : decode cX0_way 20 = .ok (.if_icmp .ne 18, 3) := dk_160 0 18 (dk_at dksX0_way_0 20 rfl rfl)
theorem dX0_way_23 : decode cX0_way 23 = .ok (.aload_n 0, 1) := dk_42 (dk_at dksX0_way_0 23 rfl rfl)
theorem dX0_way_24 : decode cX0_way 24 = .ok (.getfield 81, 3) := dk_180 0 81 (dk_at dksX0_way_1 0 rfl rfl)
theorem dX0_way_27 : decode cX0_way 27 = .ok (.aload_n 0, 1) := dk_42 (dk_at dksX0_way_1 3 rfl rfl)
theorem dX0_way_28 : decode cX0_way 28 = .ok (.getfield 69, 3) := dk_180 0 69 (dk_at dksX0_way_1 4 rfl rfl)
theorem dX0_way_31 : decode cX0_way 31 = .ok (.getfield 297, 3) := dk_180 1 41 (dk_at dksX0_way_1 7 rfl rfl)
theorem dX0_way_34 : decode cX0_way 34 = .ok (.iload_n 1, 1) := dk_27 (dk_at dksX0_way_1 10 rfl rfl)
theorem dX0_way_35 : decode cX0_way 35 = .ok (.iaload, 1) := dk_46 (dk_at dksX0_way_1 11 rfl rfl)
theorem dX0_way_36 : decode cX0_way 36 = .ok (.iaload, 1) := dk_46 (dk_at dksX0_way_1 12 rfl rfl)
theorem dX0_way_37 : decode cX0_way 37 = .ok (.ireturn, 1) := dk_172 (dk_at dksX0_way_1 13 rfl rfl)
theorem dX0_way_38 : decode cX0_way 38 = .ok (.iload_n 2, 1) := dk_28 (dk_at dksX0_way_1 14 rfl rfl)
theorem dX0_way_39 : decode cX0_way 39 = .ok (.bipush 20, 2) := dk_16 20 (dk_at dksX0_way_1 15 rfl rfl)
theorem dX0_way_41 : decode cX0_way 41 = .ok (.if_icmp .ne 8, 3) := dk_160 0 8 (dk_at dksX0_way_1 17 rfl rfl)
theorem dX0_way_44 : decode cX0_way 44 = .ok (.aload_n 0, 1) := dk_42 (dk_at dksX0_way_1 20 rfl rfl)
theorem dX0_way_45 : decode cX0_way 45 = .ok (.getfield 316, 3) := dk_180 1 60 (dk_at dksX0_way_1 21 rfl rfl)
theorem dX0_way_48 : decode cX0_way 48 = .ok (.ireturn, 1) := dk_172 (dk_at dksX0_way_2 0 rfl rfl)
theorem dX0_way_49 : decode cX0_way 49 = .ok (.iload_n 2, 1) := dk_28 (dk_at dksX0_way_2 1 rfl rfl)
theorem dX0_way_50 : decode cX0_way 50 = .ok (.iconst 0, 1) := dk_3 (dk_at dksX0_way_2 2 rfl rfl)
theorem dX0_way_51 : decode cX0_way 51 = .ok (.aload_n 0, 1) := dk_42 (dk_at dksX0_way_2 3 rfl rfl)
theorem dX0_way_52 : decode cX0_way 52 = .ok (.getfield 316, 3) := dk_180 1 60 (dk_at dksX0_way_2 4 rfl rfl)
theorem dX0_way_55 : decode cX0_way 55 = .ok (.iconst 1, 1) := dk_4 (dk_at dksX0_way_2 7 rfl rfl)
theorem dX0_way_56 : decode cX0_way 56 = .ok (.isub, 1) := dk_100 (dk_at dksX0_way_2 8 rfl rfl)
theorem dX0_way_57 : decode cX0_way 57 = .ok (.invokestatic 192, 3) := dk_184 0 192 (dk_at dksX0_way_2 9 rfl rfl)
theorem dX0_way_60 : decode cX0_way 60 = .ok (.ifCond .eq 19, 3) := dk_153 0 19 (dk_at dksX0_way_2 12 rfl rfl)
theorem dX0_way_63 : decode cX0_way 63 = .ok (.aload_n 0, 1) := dk_42 (dk_at dksX0_way_2 15 rfl rfl)
theorem dX0_way_64 : decode cX0_way 64 = .ok (.getfield 88, 3) := dk_180 0 88 (dk_at dksX0_way_2 16 rfl rfl)
theorem dX0_way_67 : decode cX0_way 67 = .ok (.aload_n 0, 1) := dk_42 (dk_at dksX0_way_2 19 rfl rfl)
theorem dX0_way_68 : decode cX0_way 68 = .ok (.getfield 316, 3) := dk_180 1 60 (dk_at dksX0_way_2 20 rfl rfl)
theorem dX0_way_71 : decode cX0_way 71 = .ok (.iconst 1, 1) := dk_4 (dk_at dksX0_way_2 23 rfl rfl)
theorem dX0_way_72 : decode cX0_way 72 = .ok (.isub, 1) := dk_100 (dk_at dksX0_way_3 0 rfl rfl)
theorem dX0_way_73 : decode cX0_way 73 = .ok (.iload_n 2, 1) := dk_28 (dk_at dksX0_way_3 1 rfl rfl)
theorem dX0_way_74 : decode cX0_way 74 = .ok (.isub, 1) := dk_100 (dk_at dksX0_way_3 2 rfl rfl)
theorem dX0_way_75 : decode cX0_way 75 = .ok (.iaload, 1) := dk_46 (dk_at dksX0_way_3 3 rfl rfl)
theorem dX0_way_76 : decode cX0_way 76 = .ok (.goto 39, 3) := dk_167 0 39 (dk_at dksX0_way_3 4 rfl rfl)
theorem dX0_way_79 : decode cX0_way 79 = .ok (.iload_n 2, 1) := dk_28 (dk_at dksX0_way_3 7 rfl rfl)
theorem dX0_way_80 : decode cX0_way 80 = .ok (.bipush 100, 2) := dk_16 100 (dk_at dksX0_way_3 8 rfl rfl)
theorem dX0_way_82 : decode cX0_way 82 = .ok (.bipush 99, 2) := dk_16 99 (dk_at dksX0_way_3 10 rfl rfl)
theorem dX0_way_84 : decode cX0_way 84 = .ok (.aload_n 0, 1) := dk_42 (dk_at dksX0_way_3 12 rfl rfl)
theorem dX0_way_85 : decode cX0_way 85 = .ok (.getfield 316, 3) := dk_180 1 60 (dk_at dksX0_way_3 13 rfl rfl)
theorem dX0_way_88 : decode cX0_way 88 = .ok (.iadd, 1) := dk_96 (dk_at dksX0_way_3 16 rfl rfl)
theorem dX0_way_89 : decode cX0_way 89 = .ok (.invokestatic 192, 3) := dk_184 0 192 (dk_at dksX0_way_3 17 rfl rfl)
theorem dX0_way_92 : decode cX0_way 92 = .ok (.ifCond .eq 22, 3) := dk_153 0 22 (dk_at dksX0_way_3 20 rfl rfl)
theorem dX0_way_95 : decode cX0_way 95 = .ok (.aload_n 0, 1) := dk_42 (dk_at dksX0_way_3 23 rfl rfl)
theorem dX0_way_96 : decode cX0_way 96 = .ok (.getfield 91, 3) := dk_180 0 91 (dk_at dksX0_way_4 0 rfl rfl)
theorem dX0_way_99 : decode cX0_way 99 = .ok (.aload_n 0, 1) := dk_42 (dk_at dksX0_way_4 3 rfl rfl)
theorem dX0_way_100 : decode cX0_way 100 = .ok (.getfield 316, 3) := dk_180 1 60 (dk_at dksX0_way_4 4 rfl rfl)
theorem dX0_way_103 : decode cX0_way 103 = .ok (.iconst 1, 1) := dk_4 (dk_at dksX0_way_4 7 rfl rfl)
theorem dX0_way_104 : decode cX0_way 104 = .ok (.isub, 1) := dk_100 (dk_at dksX0_way_4 8 rfl rfl)
theorem dX0_way_105 : decode cX0_way 105 = .ok (.iload_n 2, 1) := dk_28 (dk_at dksX0_way_4 9 rfl rfl)
theorem dX0_way_106 : decode cX0_way 106 = .ok (.bipush 100, 2) := dk_16 100 (dk_at dksX0_way_4 10 rfl rfl)
theorem dX0_way_108 : decode cX0_way 108 = .ok (.isub, 1) := dk_100 (dk_at dksX0_way_4 12 rfl rfl)
theorem dX0_way_109 : decode cX0_way 109 = .ok (.isub, 1) := dk_100 (dk_at dksX0_way_4 13 rfl rfl)
theorem dX0_way_110 : decode cX0_way 110 = .ok (.iaload, 1) := dk_46 (dk_at dksX0_way_4 14 rfl rfl)
theorem dX0_way_111 : decode cX0_way 111 = .ok (.goto 4, 3) := dk_167 0 4 (dk_at dksX0_way_4 15 rfl rfl)
theorem dX0_way_114 : decode cX0_way 114 = .ok (.iconst (-1), 1) := dk_2 (dk_at dksX0_way_4 18 rfl rfl)
theorem dX0_way_115 : decode cX0_way 115 = .ok (.ireturn, 1) := dk_172 (dk_at dksX0_way_4 19 rfl rfl)
abbrev cX0_goes : ByteArray := prog_1_method_42_code
def yX0_goes : MethodName := ⟨RX0, "goes", "(I)Z"⟩
def dkwX0_goes_1 : List UInt8 := [182, 1, 30, 180, 1, 34, 42, 27, 182, 1, 66, 182, 1, 69, 172]
abbrev dktX0_goes_1 : List UInt8 := dkwX0_goes_1 ++ []
def dkwX0_goes_0 : List UInt8 := [42, 42, 180, 0, 69, 180, 1, 39, 27, 46, 42, 180, 0, 69, 180, 1, 41, 27, 46, 42, 180, 0, 31, 27]
abbrev dktX0_goes_0 : List UInt8 := dkwX0_goes_0 ++ dktX0_goes_1
theorem dksX0_goes_0 : cX0_goes.data.toList.drop 0 = dktX0_goes_0 := by decide +kernel
theorem dksX0_goes_1 : cX0_goes.data.toList.drop 24 = dktX0_goes_1 := dk_seg dksX0_goes_0 24 rfl rfl
theorem dX0_goes_0 : decode cX0_goes 0 = .ok (.aload_n 0, 1) := dk_42 (dk_at dksX0_goes_0 0 rfl rfl)
theorem dX0_goes_1 : decode cX0_goes 1 = .ok (.aload_n 0, 1) := dk_42 (dk_at dksX0_goes_0 1 rfl rfl)
theorem dX0_goes_2 : decode cX0_goes 2 = .ok (.getfield 69, 3) := dk_180 0 69 (dk_at dksX0_goes_0 2 rfl rfl)
theorem dX0_goes_5 : decode cX0_goes 5 = .ok (.getfield 295, 3) := dk_180 1 39 (dk_at dksX0_goes_0 5 rfl rfl)
theorem dX0_goes_8 : decode cX0_goes 8 = .ok (.iload_n 1, 1) := dk_27 (dk_at dksX0_goes_0 8 rfl rfl)
theorem dX0_goes_9 : decode cX0_goes 9 = .ok (.iaload, 1) := dk_46 (dk_at dksX0_goes_0 9 rfl rfl)
theorem dX0_goes_10 : decode cX0_goes 10 = .ok (.aload_n 0, 1) := dk_42 (dk_at dksX0_goes_0 10 rfl rfl)
theorem dX0_goes_11 : decode cX0_goes 11 = .ok (.getfield 69, 3) := dk_180 0 69 (dk_at dksX0_goes_0 11 rfl rfl)
theorem dX0_goes_14 : decode cX0_goes 14 = .ok (.getfield 297, 3) := dk_180 1 41 (dk_at dksX0_goes_0 14 rfl rfl)
theorem dX0_goes_17 : decode cX0_goes 17 = .ok (.iload_n 1, 1) := dk_27 (dk_at dksX0_goes_0 17 rfl rfl)
theorem dX0_goes_18 : decode cX0_goes 18 = .ok (.iaload, 1) := dk_46 (dk_at dksX0_goes_0 18 rfl rfl)
theorem dX0_goes_19 : decode cX0_goes 19 = .ok (.aload_n 0, 1) := dk_42 (dk_at dksX0_goes_0 19 rfl rfl)
theorem dX0_goes_20 : decode cX0_goes 20 = .ok (.getfield 31, 3) := dk_180 0 31 (dk_at dksX0_goes_0 20 rfl rfl)
theorem dX0_goes_23 : decode cX0_goes 23 = .ok (.iload_n 1, 1) := dk_27 (dk_at dksX0_goes_0 23 rfl rfl)
theorem dX0_goes_24 : decode cX0_goes 24 = .ok (.invokevirtual 286, 3) := dk_182 1 30 (dk_at dksX0_goes_1 0 rfl rfl)
theorem dX0_goes_27 : decode cX0_goes 27 = .ok (.getfield 290, 3) := dk_180 1 34 (dk_at dksX0_goes_1 3 rfl rfl)
theorem dX0_goes_30 : decode cX0_goes 30 = .ok (.aload_n 0, 1) := dk_42 (dk_at dksX0_goes_1 6 rfl rfl)
theorem dX0_goes_31 : decode cX0_goes 31 = .ok (.iload_n 1, 1) := dk_27 (dk_at dksX0_goes_1 7 rfl rfl)
theorem dX0_goes_32 : decode cX0_goes 32 = .ok (.invokevirtual 322, 3) := dk_182 1 66 (dk_at dksX0_goes_1 8 rfl rfl)
theorem dX0_goes_35 : decode cX0_goes 35 = .ok (.invokevirtual 325, 3) := dk_182 1 69 (dk_at dksX0_goes_1 11 rfl rfl)
theorem dX0_goes_38 : decode cX0_goes 38 = .ok (.ireturn, 1) := dk_172 (dk_at dksX0_goes_1 14 rfl rfl)
abbrev cX0_start : ByteArray := prog_1_method_37_code
def yX0_start : MethodName := ⟨RX0, "start", "(I)I"⟩
def dkwX0_start_0 : List UInt8 := [42, 180, 0, 69, 180, 1, 3, 42, 180, 0, 69, 180, 1, 9, 27, 46, 184, 1, 43, 172]
abbrev dktX0_start_0 : List UInt8 := dkwX0_start_0 ++ []
theorem dksX0_start_0 : cX0_start.data.toList.drop 0 = dktX0_start_0 := by decide +kernel
theorem dX0_start_0 : decode cX0_start 0 = .ok (.aload_n 0, 1) := dk_42 (dk_at dksX0_start_0 0 rfl rfl)
theorem dX0_start_1 : decode cX0_start 1 = .ok (.getfield 69, 3) := dk_180 0 69 (dk_at dksX0_start_0 1 rfl rfl)
theorem dX0_start_4 : decode cX0_start 4 = .ok (.getfield 259, 3) := dk_180 1 3 (dk_at dksX0_start_0 4 rfl rfl)
theorem dX0_start_7 : decode cX0_start 7 = .ok (.aload_n 0, 1) := dk_42 (dk_at dksX0_start_0 7 rfl rfl)
theorem dX0_start_8 : decode cX0_start 8 = .ok (.getfield 69, 3) := dk_180 0 69 (dk_at dksX0_start_0 8 rfl rfl)
theorem dX0_start_11 : decode cX0_start 11 = .ok (.getfield 265, 3) := dk_180 1 9 (dk_at dksX0_start_0 11 rfl rfl)
theorem dX0_start_14 : decode cX0_start 14 = .ok (.iload_n 1, 1) := dk_27 (dk_at dksX0_start_0 14 rfl rfl)
theorem dX0_start_15 : decode cX0_start 15 = .ok (.iaload, 1) := dk_46 (dk_at dksX0_start_0 15 rfl rfl)
theorem dX0_start_16 : decode cX0_start 16 = .ok (.invokestatic 299, 3) := dk_184 1 43 (dk_at dksX0_start_0 16 rfl rfl)
theorem dX0_start_19 : decode cX0_start 19 = .ok (.ireturn, 1) := dk_172 (dk_at dksX0_start_0 19 rfl rfl)
abbrev cX0_goes_2 : ByteArray := prog_1_method_40_code
def yX0_goes_2 : MethodName := ⟨RX0, "goes", "(IIII)Z"⟩
def dkwX0_goes_2_5 : List UInt8 := [21, 7, 54, 5, 167, 255, 168, 4, 172]
abbrev dktX0_goes_2_5 : List UInt8 := dkwX0_goes_2_5 ++ []
def dkwX0_goes_2_4 : List UInt8 := [180, 1, 60, 90, 4, 96, 181, 1, 60, 42, 21, 6, 29, 42, 180, 0, 81, 21, 7, 46, 182, 1, 52, 79]
abbrev dktX0_goes_2_4 : List UInt8 := dkwX0_goes_2_4 ++ dktX0_goes_2_5
def dkwX0_goes_2_3 : List UInt8 := [182, 1, 49, 54, 7, 42, 180, 0, 88, 42, 180, 1, 60, 21, 6, 79, 42, 180, 0, 91, 42, 89]
abbrev dktX0_goes_2_3 : List UInt8 := dkwX0_goes_2_3 ++ dktX0_goes_2_4
def dkwX0_goes_2_2 : List UInt8 := [182, 1, 63, 154, 0, 9, 132, 6, 1, 167, 255, 241, 42, 180, 0, 31, 21, 6, 182, 0, 196, 21, 5]
abbrev dktX0_goes_2_2 : List UInt8 := dkwX0_goes_2_2 ++ dktX0_goes_2_3
def dkwX0_goes_2_1 : List UInt8 := [161, 0, 5, 3, 172, 28, 54, 5, 21, 5, 27, 159, 0, 88, 3, 54, 6, 42, 21, 6, 21, 5, 29]
abbrev dktX0_goes_2_1 : List UInt8 := dkwX0_goes_2_1 ++ dktX0_goes_2_2
def dkwX0_goes_2_0 : List UInt8 := [42, 27, 29, 21, 4, 182, 1, 56, 42, 3, 181, 1, 60, 42, 180, 0, 81, 28, 46, 19, 1, 48]
abbrev dktX0_goes_2_0 : List UInt8 := dkwX0_goes_2_0 ++ dktX0_goes_2_1
theorem dksX0_goes_2_0 : cX0_goes_2.data.toList.drop 0 = dktX0_goes_2_0 := by decide +kernel
theorem dksX0_goes_2_1 : cX0_goes_2.data.toList.drop 22 = dktX0_goes_2_1 := dk_seg dksX0_goes_2_0 22 rfl rfl
theorem dksX0_goes_2_2 : cX0_goes_2.data.toList.drop 45 = dktX0_goes_2_2 := dk_seg dksX0_goes_2_1 23 rfl rfl
theorem dksX0_goes_2_3 : cX0_goes_2.data.toList.drop 68 = dktX0_goes_2_3 := dk_seg dksX0_goes_2_2 23 rfl rfl
theorem dksX0_goes_2_4 : cX0_goes_2.data.toList.drop 90 = dktX0_goes_2_4 := dk_seg dksX0_goes_2_3 22 rfl rfl
theorem dksX0_goes_2_5 : cX0_goes_2.data.toList.drop 114 = dktX0_goes_2_5 := dk_seg dksX0_goes_2_4 24 rfl rfl
theorem dX0_goes_2_0 : decode cX0_goes_2 0 = .ok (.aload_n 0, 1) := dk_42 (dk_at dksX0_goes_2_0 0 rfl rfl)
theorem dX0_goes_2_1 : decode cX0_goes_2 1 = .ok (.iload_n 1, 1) := dk_27 (dk_at dksX0_goes_2_0 1 rfl rfl)
theorem dX0_goes_2_2 : decode cX0_goes_2 2 = .ok (.iload_n 3, 1) := dk_29 (dk_at dksX0_goes_2_0 2 rfl rfl)
theorem dX0_goes_2_3 : decode cX0_goes_2 3 = .ok (.iload 4, 2) := dk_21 4 (dk_at dksX0_goes_2_0 3 rfl rfl)
theorem dX0_goes_2_5 : decode cX0_goes_2 5 = .ok (.invokevirtual 312, 3) := dk_182 1 56 (dk_at dksX0_goes_2_0 5 rfl rfl)
theorem dX0_goes_2_8 : decode cX0_goes_2 8 = .ok (.aload_n 0, 1) := dk_42 (dk_at dksX0_goes_2_0 8 rfl rfl)
theorem dX0_goes_2_9 : decode cX0_goes_2 9 = .ok (.iconst 0, 1) := dk_3 (dk_at dksX0_goes_2_0 9 rfl rfl)
theorem dX0_goes_2_10 : decode cX0_goes_2 10 = .ok (.putfield 316, 3) := dk_181 1 60 (dk_at dksX0_goes_2_0 10 rfl rfl)
theorem dX0_goes_2_13 : decode cX0_goes_2 13 = .ok (.aload_n 0, 1) := dk_42 (dk_at dksX0_goes_2_0 13 rfl rfl)
theorem dX0_goes_2_14 : decode cX0_goes_2 14 = .ok (.getfield 81, 3) := dk_180 0 81 (dk_at dksX0_goes_2_0 14 rfl rfl)
theorem dX0_goes_2_17 : decode cX0_goes_2 17 = .ok (.iload_n 2, 1) := dk_28 (dk_at dksX0_goes_2_0 17 rfl rfl)
theorem dX0_goes_2_18 : decode cX0_goes_2 18 = .ok (.iaload, 1) := dk_46 (dk_at dksX0_goes_2_0 18 rfl rfl)
theorem dX0_goes_2_19 : decode cX0_goes_2 19 = .ok (.ldc_w 304, 3) := dk_19 1 48 (dk_at dksX0_goes_2_0 19 rfl rfl)
theorem dX0_goes_2_22 : decode cX0_goes_2 22 = .ok (.if_icmp .lt 5, 3) := dk_161 0 5 (dk_at dksX0_goes_2_1 0 rfl rfl)
theorem dX0_goes_2_25 : decode cX0_goes_2 25 = .ok (.iconst 0, 1) := dk_3 (dk_at dksX0_goes_2_1 3 rfl rfl)
theorem dX0_goes_2_26 : decode cX0_goes_2 26 = .ok (.ireturn, 1) := dk_172 (dk_at dksX0_goes_2_1 4 rfl rfl)
theorem dX0_goes_2_27 : decode cX0_goes_2 27 = .ok (.iload_n 2, 1) := dk_28 (dk_at dksX0_goes_2_1 5 rfl rfl)
theorem dX0_goes_2_28 : decode cX0_goes_2 28 = .ok (.istore 5, 2) := dk_54 5 (dk_at dksX0_goes_2_1 6 rfl rfl)
theorem dX0_goes_2_30 : decode cX0_goes_2 30 = .ok (.iload 5, 2) := dk_21 5 (dk_at dksX0_goes_2_1 8 rfl rfl)
theorem dX0_goes_2_32 : decode cX0_goes_2 32 = .ok (.iload_n 1, 1) := dk_27 (dk_at dksX0_goes_2_1 10 rfl rfl)
theorem dX0_goes_2_33 : decode cX0_goes_2 33 = .ok (.if_icmp .eq 88, 3) := dk_159 0 88 (dk_at dksX0_goes_2_1 11 rfl rfl)
theorem dX0_goes_2_36 : decode cX0_goes_2 36 = .ok (.iconst 0, 1) := dk_3 (dk_at dksX0_goes_2_1 14 rfl rfl)
theorem dX0_goes_2_37 : decode cX0_goes_2 37 = .ok (.istore 6, 2) := dk_54 6 (dk_at dksX0_goes_2_1 15 rfl rfl)
theorem dX0_goes_2_39 : decode cX0_goes_2 39 = .ok (.aload_n 0, 1) := dk_42 (dk_at dksX0_goes_2_1 17 rfl rfl)
theorem dX0_goes_2_40 : decode cX0_goes_2 40 = .ok (.iload 6, 2) := dk_21 6 (dk_at dksX0_goes_2_1 18 rfl rfl)
theorem dX0_goes_2_42 : decode cX0_goes_2 42 = .ok (.iload 5, 2) := dk_21 5 (dk_at dksX0_goes_2_1 20 rfl rfl)
theorem dX0_goes_2_44 : decode cX0_goes_2 44 = .ok (.iload_n 3, 1) := dk_29 (dk_at dksX0_goes_2_1 22 rfl rfl)
theorem dX0_goes_2_45 : decode cX0_goes_2 45 = .ok (.invokevirtual 319, 3) := dk_182 1 63 (dk_at dksX0_goes_2_2 0 rfl rfl)
theorem dX0_goes_2_48 : decode cX0_goes_2 48 = .ok (.ifCond .ne 9, 3) := dk_154 0 9 (dk_at dksX0_goes_2_2 3 rfl rfl)
theorem dX0_goes_2_51 : decode cX0_goes_2 51 = .ok (.iinc 6 1, 3) := dk_132 6 1 (dk_at dksX0_goes_2_2 6 rfl rfl)
theorem dX0_goes_2_54 : decode cX0_goes_2 54 = .ok (.goto (-15), 3) := dk_167 255 241 (dk_at dksX0_goes_2_2 9 rfl rfl)
theorem dX0_goes_2_57 : decode cX0_goes_2 57 = .ok (.aload_n 0, 1) := dk_42 (dk_at dksX0_goes_2_2 12 rfl rfl)
theorem dX0_goes_2_58 : decode cX0_goes_2 58 = .ok (.getfield 31, 3) := dk_180 0 31 (dk_at dksX0_goes_2_2 13 rfl rfl)
theorem dX0_goes_2_61 : decode cX0_goes_2 61 = .ok (.iload 6, 2) := dk_21 6 (dk_at dksX0_goes_2_2 16 rfl rfl)
theorem dX0_goes_2_63 : decode cX0_goes_2 63 = .ok (.invokevirtual 196, 3) := dk_182 0 196 (dk_at dksX0_goes_2_2 18 rfl rfl)
theorem dX0_goes_2_66 : decode cX0_goes_2 66 = .ok (.iload 5, 2) := dk_21 5 (dk_at dksX0_goes_2_2 21 rfl rfl)
theorem dX0_goes_2_68 : decode cX0_goes_2 68 = .ok (.invokevirtual 305, 3) := dk_182 1 49 (dk_at dksX0_goes_2_3 0 rfl rfl)
theorem dX0_goes_2_71 : decode cX0_goes_2 71 = .ok (.istore 7, 2) := dk_54 7 (dk_at dksX0_goes_2_3 3 rfl rfl)
theorem dX0_goes_2_73 : decode cX0_goes_2 73 = .ok (.aload_n 0, 1) := dk_42 (dk_at dksX0_goes_2_3 5 rfl rfl)
theorem dX0_goes_2_74 : decode cX0_goes_2 74 = .ok (.getfield 88, 3) := dk_180 0 88 (dk_at dksX0_goes_2_3 6 rfl rfl)
theorem dX0_goes_2_77 : decode cX0_goes_2 77 = .ok (.aload_n 0, 1) := dk_42 (dk_at dksX0_goes_2_3 9 rfl rfl)
theorem dX0_goes_2_78 : decode cX0_goes_2 78 = .ok (.getfield 316, 3) := dk_180 1 60 (dk_at dksX0_goes_2_3 10 rfl rfl)
theorem dX0_goes_2_81 : decode cX0_goes_2 81 = .ok (.iload 6, 2) := dk_21 6 (dk_at dksX0_goes_2_3 13 rfl rfl)
theorem dX0_goes_2_83 : decode cX0_goes_2 83 = .ok (.iastore, 1) := dk_79 (dk_at dksX0_goes_2_3 15 rfl rfl)
theorem dX0_goes_2_84 : decode cX0_goes_2 84 = .ok (.aload_n 0, 1) := dk_42 (dk_at dksX0_goes_2_3 16 rfl rfl)
theorem dX0_goes_2_85 : decode cX0_goes_2 85 = .ok (.getfield 91, 3) := dk_180 0 91 (dk_at dksX0_goes_2_3 17 rfl rfl)
theorem dX0_goes_2_88 : decode cX0_goes_2 88 = .ok (.aload_n 0, 1) := dk_42 (dk_at dksX0_goes_2_3 20 rfl rfl)
theorem dX0_goes_2_89 : decode cX0_goes_2 89 = .ok (.dup, 1) := dk_89 (dk_at dksX0_goes_2_3 21 rfl rfl)
theorem dX0_goes_2_90 : decode cX0_goes_2 90 = .ok (.getfield 316, 3) := dk_180 1 60 (dk_at dksX0_goes_2_4 0 rfl rfl)
theorem dX0_goes_2_93 : decode cX0_goes_2 93 = .ok (.dup_x1, 1) := dk_90 (dk_at dksX0_goes_2_4 3 rfl rfl)
theorem dX0_goes_2_94 : decode cX0_goes_2 94 = .ok (.iconst 1, 1) := dk_4 (dk_at dksX0_goes_2_4 4 rfl rfl)
theorem dX0_goes_2_95 : decode cX0_goes_2 95 = .ok (.iadd, 1) := dk_96 (dk_at dksX0_goes_2_4 5 rfl rfl)
theorem dX0_goes_2_96 : decode cX0_goes_2 96 = .ok (.putfield 316, 3) := dk_181 1 60 (dk_at dksX0_goes_2_4 6 rfl rfl)
theorem dX0_goes_2_99 : decode cX0_goes_2 99 = .ok (.aload_n 0, 1) := dk_42 (dk_at dksX0_goes_2_4 9 rfl rfl)
theorem dX0_goes_2_100 : decode cX0_goes_2 100 = .ok (.iload 6, 2) := dk_21 6 (dk_at dksX0_goes_2_4 10 rfl rfl)
theorem dX0_goes_2_102 : decode cX0_goes_2 102 = .ok (.iload_n 3, 1) := dk_29 (dk_at dksX0_goes_2_4 12 rfl rfl)
theorem dX0_goes_2_103 : decode cX0_goes_2 103 = .ok (.aload_n 0, 1) := dk_42 (dk_at dksX0_goes_2_4 13 rfl rfl)
theorem dX0_goes_2_104 : decode cX0_goes_2 104 = .ok (.getfield 81, 3) := dk_180 0 81 (dk_at dksX0_goes_2_4 14 rfl rfl)
theorem dX0_goes_2_107 : decode cX0_goes_2 107 = .ok (.iload 7, 2) := dk_21 7 (dk_at dksX0_goes_2_4 17 rfl rfl)
theorem dX0_goes_2_109 : decode cX0_goes_2 109 = .ok (.iaload, 1) := dk_46 (dk_at dksX0_goes_2_4 19 rfl rfl)
theorem dX0_goes_2_110 : decode cX0_goes_2 110 = .ok (.invokevirtual 308, 3) := dk_182 1 52 (dk_at dksX0_goes_2_4 20 rfl rfl)
theorem dX0_goes_2_113 : decode cX0_goes_2 113 = .ok (.iastore, 1) := dk_79 (dk_at dksX0_goes_2_4 23 rfl rfl)
theorem dX0_goes_2_114 : decode cX0_goes_2 114 = .ok (.iload 7, 2) := dk_21 7 (dk_at dksX0_goes_2_5 0 rfl rfl)
theorem dX0_goes_2_116 : decode cX0_goes_2 116 = .ok (.istore 5, 2) := dk_54 5 (dk_at dksX0_goes_2_5 2 rfl rfl)
theorem dX0_goes_2_118 : decode cX0_goes_2 118 = .ok (.goto (-88), 3) := dk_167 255 168 (dk_at dksX0_goes_2_5 4 rfl rfl)
theorem dX0_goes_2_121 : decode cX0_goes_2 121 = .ok (.iconst 1, 1) := dk_4 (dk_at dksX0_goes_2_5 7 rfl rfl)
theorem dX0_goes_2_122 : decode cX0_goes_2 122 = .ok (.ireturn, 1) := dk_172 (dk_at dksX0_goes_2_5 8 rfl rfl)
abbrev cX0_labels : ByteArray := prog_1_method_39_code
def yX0_labels : MethodName := ⟨RX0, "labels", "(III)V"⟩
def dkwX0_labels_11 : List UInt8 := [132, 6, 1, 167, 255, 153, 132, 4, 1, 167, 255, 49, 177]
abbrev dktX0_labels_11 : List UInt8 := dkwX0_labels_11 ++ []
def dkwX0_labels_10 : List UInt8 := [21, 7, 46, 21, 8, 42, 180, 0, 31, 21, 6, 182, 0, 196, 180, 0, 238, 96, 184, 1, 54, 79]
abbrev dktX0_labels_10 : List UInt8 := dkwX0_labels_10 ++ dktX0_labels_11
def dkwX0_labels_9 : List UInt8 := [182, 1, 52, 54, 8, 21, 8, 19, 1, 48, 162, 0, 35, 42, 180, 0, 81, 21, 7, 42, 180, 0, 81]
abbrev dktX0_labels_9 : List UInt8 := dkwX0_labels_9 ++ dktX0_labels_10
def dkwX0_labels_8 : List UInt8 := [180, 0, 84, 21, 7, 51, 153, 0, 6, 167, 0, 59, 42, 21, 6, 28, 42, 180, 0, 81, 21, 5, 46]
abbrev dktX0_labels_8 : List UInt8 := dkwX0_labels_8 ++ dktX0_labels_9
def dkwX0_labels_7 : List UInt8 := [42, 180, 0, 31, 21, 6, 182, 0, 196, 21, 5, 182, 1, 49, 54, 7, 21, 7, 2, 159, 0, 72, 42]
abbrev dktX0_labels_7 : List UInt8 := dkwX0_labels_7 ++ dktX0_labels_8
def dkwX0_labels_6 : List UInt8 := [160, 0, 4, 177, 42, 180, 0, 84, 21, 5, 4, 84, 3, 54, 6, 21, 6, 42, 182, 0, 186, 162, 0, 100]
abbrev dktX0_labels_6 : List UInt8 := dkwX0_labels_6 ++ dktX0_labels_7
def dkwX0_labels_5 : List UInt8 := [180, 0, 81, 21, 5, 46, 162, 0, 7, 21, 6, 54, 5, 132, 6, 1, 167, 255, 194, 21, 5, 2]
abbrev dktX0_labels_5 : List UInt8 := dkwX0_labels_5 ++ dktX0_labels_6
def dkwX0_labels_4 : List UInt8 := [21, 6, 46, 19, 1, 48, 162, 0, 30, 21, 5, 2, 159, 0, 20, 42, 180, 0, 81, 21, 6, 46, 42]
abbrev dktX0_labels_4 : List UInt8 := dkwX0_labels_4 ++ dktX0_labels_5
def dkwX0_labels_3 : List UInt8 := [21, 6, 42, 182, 0, 183, 162, 0, 59, 42, 180, 0, 84, 21, 6, 51, 154, 0, 43, 42, 180, 0, 81]
abbrev dktX0_labels_3 : List UInt8 := dkwX0_labels_3 ++ dktX0_labels_4
def dkwX0_labels_2 : List UInt8 := [132, 4, 1, 167, 255, 216, 3, 54, 4, 21, 4, 42, 182, 0, 183, 162, 0, 204, 2, 54, 5, 3, 54, 6]
abbrev dktX0_labels_2 : List UInt8 := dkwX0_labels_2 ++ dktX0_labels_3
def dkwX0_labels_1 : List UInt8 := [21, 4, 27, 160, 0, 7, 29, 167, 0, 6, 19, 1, 48, 79, 42, 180, 0, 84, 21, 4, 3, 84]
abbrev dktX0_labels_1 : List UInt8 := dkwX0_labels_1 ++ dktX0_labels_2
def dkwX0_labels_0 : List UInt8 := [42, 29, 181, 1, 45, 3, 54, 4, 21, 4, 42, 182, 0, 183, 162, 0, 37, 42, 180, 0, 81, 21, 4]
abbrev dktX0_labels_0 : List UInt8 := dkwX0_labels_0 ++ dktX0_labels_1
theorem dksX0_labels_0 : cX0_labels.data.toList.drop 0 = dktX0_labels_0 := by decide +kernel
theorem dksX0_labels_1 : cX0_labels.data.toList.drop 23 = dktX0_labels_1 := dk_seg dksX0_labels_0 23 rfl rfl
theorem dksX0_labels_2 : cX0_labels.data.toList.drop 45 = dktX0_labels_2 := dk_seg dksX0_labels_1 22 rfl rfl
theorem dksX0_labels_3 : cX0_labels.data.toList.drop 69 = dktX0_labels_3 := dk_seg dksX0_labels_2 24 rfl rfl
theorem dksX0_labels_4 : cX0_labels.data.toList.drop 92 = dktX0_labels_4 := dk_seg dksX0_labels_3 23 rfl rfl
theorem dksX0_labels_5 : cX0_labels.data.toList.drop 115 = dktX0_labels_5 := dk_seg dksX0_labels_4 23 rfl rfl
theorem dksX0_labels_6 : cX0_labels.data.toList.drop 137 = dktX0_labels_6 := dk_seg dksX0_labels_5 22 rfl rfl
theorem dksX0_labels_7 : cX0_labels.data.toList.drop 161 = dktX0_labels_7 := dk_seg dksX0_labels_6 24 rfl rfl
theorem dksX0_labels_8 : cX0_labels.data.toList.drop 184 = dktX0_labels_8 := dk_seg dksX0_labels_7 23 rfl rfl
theorem dksX0_labels_9 : cX0_labels.data.toList.drop 207 = dktX0_labels_9 := dk_seg dksX0_labels_8 23 rfl rfl
theorem dksX0_labels_10 : cX0_labels.data.toList.drop 230 = dktX0_labels_10 := dk_seg dksX0_labels_9 23 rfl rfl
theorem dksX0_labels_11 : cX0_labels.data.toList.drop 252 = dktX0_labels_11 := dk_seg dksX0_labels_10 22 rfl rfl
theorem dX0_labels_0 : decode cX0_labels 0 = .ok (.aload_n 0, 1) := dk_42 (dk_at dksX0_labels_0 0 rfl rfl)
theorem dX0_labels_1 : decode cX0_labels 1 = .ok (.iload_n 3, 1) := dk_29 (dk_at dksX0_labels_0 1 rfl rfl)
theorem dX0_labels_2 : decode cX0_labels 2 = .ok (.putfield 301, 3) := dk_181 1 45 (dk_at dksX0_labels_0 2 rfl rfl)
theorem dX0_labels_5 : decode cX0_labels 5 = .ok (.iconst 0, 1) := dk_3 (dk_at dksX0_labels_0 5 rfl rfl)
theorem dX0_labels_6 : decode cX0_labels 6 = .ok (.istore 4, 2) := dk_54 4 (dk_at dksX0_labels_0 6 rfl rfl)
theorem dX0_labels_8 : decode cX0_labels 8 = .ok (.iload 4, 2) := dk_21 4 (dk_at dksX0_labels_0 8 rfl rfl)
theorem dX0_labels_10 : decode cX0_labels 10 = .ok (.aload_n 0, 1) := dk_42 (dk_at dksX0_labels_0 10 rfl rfl)
theorem dX0_labels_11 : decode cX0_labels 11 = .ok (.invokevirtual 183, 3) := dk_182 0 183 (dk_at dksX0_labels_0 11 rfl rfl)
theorem dX0_labels_14 : decode cX0_labels 14 = .ok (.if_icmp .ge 37, 3) := dk_162 0 37 (dk_at dksX0_labels_0 14 rfl rfl)
theorem dX0_labels_17 : decode cX0_labels 17 = .ok (.aload_n 0, 1) := dk_42 (dk_at dksX0_labels_0 17 rfl rfl)
theorem dX0_labels_18 : decode cX0_labels 18 = .ok (.getfield 81, 3) := dk_180 0 81 (dk_at dksX0_labels_0 18 rfl rfl)
theorem dX0_labels_21 : decode cX0_labels 21 = .ok (.iload 4, 2) := dk_21 4 (dk_at dksX0_labels_0 21 rfl rfl)
theorem dX0_labels_23 : decode cX0_labels 23 = .ok (.iload 4, 2) := dk_21 4 (dk_at dksX0_labels_1 0 rfl rfl)
theorem dX0_labels_25 : decode cX0_labels 25 = .ok (.iload_n 1, 1) := dk_27 (dk_at dksX0_labels_1 2 rfl rfl)
theorem dX0_labels_26 : decode cX0_labels 26 = .ok (.if_icmp .ne 7, 3) := dk_160 0 7 (dk_at dksX0_labels_1 3 rfl rfl)
theorem dX0_labels_29 : decode cX0_labels 29 = .ok (.iload_n 3, 1) := dk_29 (dk_at dksX0_labels_1 6 rfl rfl)
theorem dX0_labels_30 : decode cX0_labels 30 = .ok (.goto 6, 3) := dk_167 0 6 (dk_at dksX0_labels_1 7 rfl rfl)
theorem dX0_labels_33 : decode cX0_labels 33 = .ok (.ldc_w 304, 3) := dk_19 1 48 (dk_at dksX0_labels_1 10 rfl rfl)
theorem dX0_labels_36 : decode cX0_labels 36 = .ok (.iastore, 1) := dk_79 (dk_at dksX0_labels_1 13 rfl rfl)
theorem dX0_labels_37 : decode cX0_labels 37 = .ok (.aload_n 0, 1) := dk_42 (dk_at dksX0_labels_1 14 rfl rfl)
theorem dX0_labels_38 : decode cX0_labels 38 = .ok (.getfield 84, 3) := dk_180 0 84 (dk_at dksX0_labels_1 15 rfl rfl)
theorem dX0_labels_41 : decode cX0_labels 41 = .ok (.iload 4, 2) := dk_21 4 (dk_at dksX0_labels_1 18 rfl rfl)
theorem dX0_labels_43 : decode cX0_labels 43 = .ok (.iconst 0, 1) := dk_3 (dk_at dksX0_labels_1 20 rfl rfl)
theorem dX0_labels_44 : decode cX0_labels 44 = .ok (.bastore, 1) := dk_84 (dk_at dksX0_labels_1 21 rfl rfl)
theorem dX0_labels_45 : decode cX0_labels 45 = .ok (.iinc 4 1, 3) := dk_132 4 1 (dk_at dksX0_labels_2 0 rfl rfl)
theorem dX0_labels_48 : decode cX0_labels 48 = .ok (.goto (-40), 3) := dk_167 255 216 (dk_at dksX0_labels_2 3 rfl rfl)
theorem dX0_labels_51 : decode cX0_labels 51 = .ok (.iconst 0, 1) := dk_3 (dk_at dksX0_labels_2 6 rfl rfl)
theorem dX0_labels_52 : decode cX0_labels 52 = .ok (.istore 4, 2) := dk_54 4 (dk_at dksX0_labels_2 7 rfl rfl)
theorem dX0_labels_54 : decode cX0_labels 54 = .ok (.iload 4, 2) := dk_21 4 (dk_at dksX0_labels_2 9 rfl rfl)
theorem dX0_labels_56 : decode cX0_labels 56 = .ok (.aload_n 0, 1) := dk_42 (dk_at dksX0_labels_2 11 rfl rfl)
theorem dX0_labels_57 : decode cX0_labels 57 = .ok (.invokevirtual 183, 3) := dk_182 0 183 (dk_at dksX0_labels_2 12 rfl rfl)
theorem dX0_labels_60 : decode cX0_labels 60 = .ok (.if_icmp .ge 204, 3) := dk_162 0 204 (dk_at dksX0_labels_2 15 rfl rfl)
theorem dX0_labels_63 : decode cX0_labels 63 = .ok (.iconst (-1), 1) := dk_2 (dk_at dksX0_labels_2 18 rfl rfl)
theorem dX0_labels_64 : decode cX0_labels 64 = .ok (.istore 5, 2) := dk_54 5 (dk_at dksX0_labels_2 19 rfl rfl)
theorem dX0_labels_66 : decode cX0_labels 66 = .ok (.iconst 0, 1) := dk_3 (dk_at dksX0_labels_2 21 rfl rfl)
theorem dX0_labels_67 : decode cX0_labels 67 = .ok (.istore 6, 2) := dk_54 6 (dk_at dksX0_labels_2 22 rfl rfl)
theorem dX0_labels_69 : decode cX0_labels 69 = .ok (.iload 6, 2) := dk_21 6 (dk_at dksX0_labels_3 0 rfl rfl)
theorem dX0_labels_71 : decode cX0_labels 71 = .ok (.aload_n 0, 1) := dk_42 (dk_at dksX0_labels_3 2 rfl rfl)
theorem dX0_labels_72 : decode cX0_labels 72 = .ok (.invokevirtual 183, 3) := dk_182 0 183 (dk_at dksX0_labels_3 3 rfl rfl)
theorem dX0_labels_75 : decode cX0_labels 75 = .ok (.if_icmp .ge 59, 3) := dk_162 0 59 (dk_at dksX0_labels_3 6 rfl rfl)
theorem dX0_labels_78 : decode cX0_labels 78 = .ok (.aload_n 0, 1) := dk_42 (dk_at dksX0_labels_3 9 rfl rfl)
theorem dX0_labels_79 : decode cX0_labels 79 = .ok (.getfield 84, 3) := dk_180 0 84 (dk_at dksX0_labels_3 10 rfl rfl)
theorem dX0_labels_82 : decode cX0_labels 82 = .ok (.iload 6, 2) := dk_21 6 (dk_at dksX0_labels_3 13 rfl rfl)
theorem dX0_labels_84 : decode cX0_labels 84 = .ok (.baload, 1) := dk_51 (dk_at dksX0_labels_3 15 rfl rfl)
theorem dX0_labels_85 : decode cX0_labels 85 = .ok (.ifCond .ne 43, 3) := dk_154 0 43 (dk_at dksX0_labels_3 16 rfl rfl)
theorem dX0_labels_88 : decode cX0_labels 88 = .ok (.aload_n 0, 1) := dk_42 (dk_at dksX0_labels_3 19 rfl rfl)
theorem dX0_labels_89 : decode cX0_labels 89 = .ok (.getfield 81, 3) := dk_180 0 81 (dk_at dksX0_labels_3 20 rfl rfl)
theorem dX0_labels_92 : decode cX0_labels 92 = .ok (.iload 6, 2) := dk_21 6 (dk_at dksX0_labels_4 0 rfl rfl)
theorem dX0_labels_94 : decode cX0_labels 94 = .ok (.iaload, 1) := dk_46 (dk_at dksX0_labels_4 2 rfl rfl)
theorem dX0_labels_95 : decode cX0_labels 95 = .ok (.ldc_w 304, 3) := dk_19 1 48 (dk_at dksX0_labels_4 3 rfl rfl)
theorem dX0_labels_98 : decode cX0_labels 98 = .ok (.if_icmp .ge 30, 3) := dk_162 0 30 (dk_at dksX0_labels_4 6 rfl rfl)
theorem dX0_labels_101 : decode cX0_labels 101 = .ok (.iload 5, 2) := dk_21 5 (dk_at dksX0_labels_4 9 rfl rfl)
theorem dX0_labels_103 : decode cX0_labels 103 = .ok (.iconst (-1), 1) := dk_2 (dk_at dksX0_labels_4 11 rfl rfl)
theorem dX0_labels_104 : decode cX0_labels 104 = .ok (.if_icmp .eq 20, 3) := dk_159 0 20 (dk_at dksX0_labels_4 12 rfl rfl)
theorem dX0_labels_107 : decode cX0_labels 107 = .ok (.aload_n 0, 1) := dk_42 (dk_at dksX0_labels_4 15 rfl rfl)
theorem dX0_labels_108 : decode cX0_labels 108 = .ok (.getfield 81, 3) := dk_180 0 81 (dk_at dksX0_labels_4 16 rfl rfl)
theorem dX0_labels_111 : decode cX0_labels 111 = .ok (.iload 6, 2) := dk_21 6 (dk_at dksX0_labels_4 19 rfl rfl)
theorem dX0_labels_113 : decode cX0_labels 113 = .ok (.iaload, 1) := dk_46 (dk_at dksX0_labels_4 21 rfl rfl)
theorem dX0_labels_114 : decode cX0_labels 114 = .ok (.aload_n 0, 1) := dk_42 (dk_at dksX0_labels_4 22 rfl rfl)
theorem dX0_labels_115 : decode cX0_labels 115 = .ok (.getfield 81, 3) := dk_180 0 81 (dk_at dksX0_labels_5 0 rfl rfl)
theorem dX0_labels_118 : decode cX0_labels 118 = .ok (.iload 5, 2) := dk_21 5 (dk_at dksX0_labels_5 3 rfl rfl)
theorem dX0_labels_120 : decode cX0_labels 120 = .ok (.iaload, 1) := dk_46 (dk_at dksX0_labels_5 5 rfl rfl)
theorem dX0_labels_121 : decode cX0_labels 121 = .ok (.if_icmp .ge 7, 3) := dk_162 0 7 (dk_at dksX0_labels_5 6 rfl rfl)
theorem dX0_labels_124 : decode cX0_labels 124 = .ok (.iload 6, 2) := dk_21 6 (dk_at dksX0_labels_5 9 rfl rfl)
theorem dX0_labels_126 : decode cX0_labels 126 = .ok (.istore 5, 2) := dk_54 5 (dk_at dksX0_labels_5 11 rfl rfl)
theorem dX0_labels_128 : decode cX0_labels 128 = .ok (.iinc 6 1, 3) := dk_132 6 1 (dk_at dksX0_labels_5 13 rfl rfl)
theorem dX0_labels_131 : decode cX0_labels 131 = .ok (.goto (-62), 3) := dk_167 255 194 (dk_at dksX0_labels_5 16 rfl rfl)
theorem dX0_labels_134 : decode cX0_labels 134 = .ok (.iload 5, 2) := dk_21 5 (dk_at dksX0_labels_5 19 rfl rfl)
theorem dX0_labels_136 : decode cX0_labels 136 = .ok (.iconst (-1), 1) := dk_2 (dk_at dksX0_labels_5 21 rfl rfl)
theorem dX0_labels_137 : decode cX0_labels 137 = .ok (.if_icmp .ne 4, 3) := dk_160 0 4 (dk_at dksX0_labels_6 0 rfl rfl)
theorem dX0_labels_140 : decode cX0_labels 140 = .ok (.return_, 1) := dk_177 (dk_at dksX0_labels_6 3 rfl rfl)
theorem dX0_labels_141 : decode cX0_labels 141 = .ok (.aload_n 0, 1) := dk_42 (dk_at dksX0_labels_6 4 rfl rfl)
theorem dX0_labels_142 : decode cX0_labels 142 = .ok (.getfield 84, 3) := dk_180 0 84 (dk_at dksX0_labels_6 5 rfl rfl)
theorem dX0_labels_145 : decode cX0_labels 145 = .ok (.iload 5, 2) := dk_21 5 (dk_at dksX0_labels_6 8 rfl rfl)
theorem dX0_labels_147 : decode cX0_labels 147 = .ok (.iconst 1, 1) := dk_4 (dk_at dksX0_labels_6 10 rfl rfl)
theorem dX0_labels_148 : decode cX0_labels 148 = .ok (.bastore, 1) := dk_84 (dk_at dksX0_labels_6 11 rfl rfl)
theorem dX0_labels_149 : decode cX0_labels 149 = .ok (.iconst 0, 1) := dk_3 (dk_at dksX0_labels_6 12 rfl rfl)
theorem dX0_labels_150 : decode cX0_labels 150 = .ok (.istore 6, 2) := dk_54 6 (dk_at dksX0_labels_6 13 rfl rfl)
theorem dX0_labels_152 : decode cX0_labels 152 = .ok (.iload 6, 2) := dk_21 6 (dk_at dksX0_labels_6 15 rfl rfl)
theorem dX0_labels_154 : decode cX0_labels 154 = .ok (.aload_n 0, 1) := dk_42 (dk_at dksX0_labels_6 17 rfl rfl)
theorem dX0_labels_155 : decode cX0_labels 155 = .ok (.invokevirtual 186, 3) := dk_182 0 186 (dk_at dksX0_labels_6 18 rfl rfl)
theorem dX0_labels_158 : decode cX0_labels 158 = .ok (.if_icmp .ge 100, 3) := dk_162 0 100 (dk_at dksX0_labels_6 21 rfl rfl)
theorem dX0_labels_161 : decode cX0_labels 161 = .ok (.aload_n 0, 1) := dk_42 (dk_at dksX0_labels_7 0 rfl rfl)
theorem dX0_labels_162 : decode cX0_labels 162 = .ok (.getfield 31, 3) := dk_180 0 31 (dk_at dksX0_labels_7 1 rfl rfl)
theorem dX0_labels_165 : decode cX0_labels 165 = .ok (.iload 6, 2) := dk_21 6 (dk_at dksX0_labels_7 4 rfl rfl)
theorem dX0_labels_167 : decode cX0_labels 167 = .ok (.invokevirtual 196, 3) := dk_182 0 196 (dk_at dksX0_labels_7 6 rfl rfl)
theorem dX0_labels_170 : decode cX0_labels 170 = .ok (.iload 5, 2) := dk_21 5 (dk_at dksX0_labels_7 9 rfl rfl)
theorem dX0_labels_172 : decode cX0_labels 172 = .ok (.invokevirtual 305, 3) := dk_182 1 49 (dk_at dksX0_labels_7 11 rfl rfl)
theorem dX0_labels_175 : decode cX0_labels 175 = .ok (.istore 7, 2) := dk_54 7 (dk_at dksX0_labels_7 14 rfl rfl)
theorem dX0_labels_177 : decode cX0_labels 177 = .ok (.iload 7, 2) := dk_21 7 (dk_at dksX0_labels_7 16 rfl rfl)
theorem dX0_labels_179 : decode cX0_labels 179 = .ok (.iconst (-1), 1) := dk_2 (dk_at dksX0_labels_7 18 rfl rfl)
theorem dX0_labels_180 : decode cX0_labels 180 = .ok (.if_icmp .eq 72, 3) := dk_159 0 72 (dk_at dksX0_labels_7 19 rfl rfl)
theorem dX0_labels_183 : decode cX0_labels 183 = .ok (.aload_n 0, 1) := dk_42 (dk_at dksX0_labels_7 22 rfl rfl)
theorem dX0_labels_184 : decode cX0_labels 184 = .ok (.getfield 84, 3) := dk_180 0 84 (dk_at dksX0_labels_8 0 rfl rfl)
theorem dX0_labels_187 : decode cX0_labels 187 = .ok (.iload 7, 2) := dk_21 7 (dk_at dksX0_labels_8 3 rfl rfl)
theorem dX0_labels_189 : decode cX0_labels 189 = .ok (.baload, 1) := dk_51 (dk_at dksX0_labels_8 5 rfl rfl)
theorem dX0_labels_190 : decode cX0_labels 190 = .ok (.ifCond .eq 6, 3) := dk_153 0 6 (dk_at dksX0_labels_8 6 rfl rfl)
theorem dX0_labels_193 : decode cX0_labels 193 = .ok (.goto 59, 3) := dk_167 0 59 (dk_at dksX0_labels_8 9 rfl rfl)
theorem dX0_labels_196 : decode cX0_labels 196 = .ok (.aload_n 0, 1) := dk_42 (dk_at dksX0_labels_8 12 rfl rfl)
theorem dX0_labels_197 : decode cX0_labels 197 = .ok (.iload 6, 2) := dk_21 6 (dk_at dksX0_labels_8 13 rfl rfl)
theorem dX0_labels_199 : decode cX0_labels 199 = .ok (.iload_n 2, 1) := dk_28 (dk_at dksX0_labels_8 15 rfl rfl)
theorem dX0_labels_200 : decode cX0_labels 200 = .ok (.aload_n 0, 1) := dk_42 (dk_at dksX0_labels_8 16 rfl rfl)
theorem dX0_labels_201 : decode cX0_labels 201 = .ok (.getfield 81, 3) := dk_180 0 81 (dk_at dksX0_labels_8 17 rfl rfl)
theorem dX0_labels_204 : decode cX0_labels 204 = .ok (.iload 5, 2) := dk_21 5 (dk_at dksX0_labels_8 20 rfl rfl)
theorem dX0_labels_206 : decode cX0_labels 206 = .ok (.iaload, 1) := dk_46 (dk_at dksX0_labels_8 22 rfl rfl)
theorem dX0_labels_207 : decode cX0_labels 207 = .ok (.invokevirtual 308, 3) := dk_182 1 52 (dk_at dksX0_labels_9 0 rfl rfl)
theorem dX0_labels_210 : decode cX0_labels 210 = .ok (.istore 8, 2) := dk_54 8 (dk_at dksX0_labels_9 3 rfl rfl)
theorem dX0_labels_212 : decode cX0_labels 212 = .ok (.iload 8, 2) := dk_21 8 (dk_at dksX0_labels_9 5 rfl rfl)
theorem dX0_labels_214 : decode cX0_labels 214 = .ok (.ldc_w 304, 3) := dk_19 1 48 (dk_at dksX0_labels_9 7 rfl rfl)
theorem dX0_labels_217 : decode cX0_labels 217 = .ok (.if_icmp .ge 35, 3) := dk_162 0 35 (dk_at dksX0_labels_9 10 rfl rfl)
theorem dX0_labels_220 : decode cX0_labels 220 = .ok (.aload_n 0, 1) := dk_42 (dk_at dksX0_labels_9 13 rfl rfl)
theorem dX0_labels_221 : decode cX0_labels 221 = .ok (.getfield 81, 3) := dk_180 0 81 (dk_at dksX0_labels_9 14 rfl rfl)
theorem dX0_labels_224 : decode cX0_labels 224 = .ok (.iload 7, 2) := dk_21 7 (dk_at dksX0_labels_9 17 rfl rfl)
theorem dX0_labels_226 : decode cX0_labels 226 = .ok (.aload_n 0, 1) := dk_42 (dk_at dksX0_labels_9 19 rfl rfl)
theorem dX0_labels_227 : decode cX0_labels 227 = .ok (.getfield 81, 3) := dk_180 0 81 (dk_at dksX0_labels_9 20 rfl rfl)
theorem dX0_labels_230 : decode cX0_labels 230 = .ok (.iload 7, 2) := dk_21 7 (dk_at dksX0_labels_10 0 rfl rfl)
theorem dX0_labels_232 : decode cX0_labels 232 = .ok (.iaload, 1) := dk_46 (dk_at dksX0_labels_10 2 rfl rfl)
theorem dX0_labels_233 : decode cX0_labels 233 = .ok (.iload 8, 2) := dk_21 8 (dk_at dksX0_labels_10 3 rfl rfl)
theorem dX0_labels_235 : decode cX0_labels 235 = .ok (.aload_n 0, 1) := dk_42 (dk_at dksX0_labels_10 5 rfl rfl)
theorem dX0_labels_236 : decode cX0_labels 236 = .ok (.getfield 31, 3) := dk_180 0 31 (dk_at dksX0_labels_10 6 rfl rfl)
theorem dX0_labels_239 : decode cX0_labels 239 = .ok (.iload 6, 2) := dk_21 6 (dk_at dksX0_labels_10 9 rfl rfl)
theorem dX0_labels_241 : decode cX0_labels 241 = .ok (.invokevirtual 196, 3) := dk_182 0 196 (dk_at dksX0_labels_10 11 rfl rfl)
theorem dX0_labels_244 : decode cX0_labels 244 = .ok (.getfield 238, 3) := dk_180 0 238 (dk_at dksX0_labels_10 14 rfl rfl)
theorem dX0_labels_247 : decode cX0_labels 247 = .ok (.iadd, 1) := dk_96 (dk_at dksX0_labels_10 17 rfl rfl)
theorem dX0_labels_248 : decode cX0_labels 248 = .ok (.invokestatic 310, 3) := dk_184 1 54 (dk_at dksX0_labels_10 18 rfl rfl)
theorem dX0_labels_251 : decode cX0_labels 251 = .ok (.iastore, 1) := dk_79 (dk_at dksX0_labels_10 21 rfl rfl)
theorem dX0_labels_252 : decode cX0_labels 252 = .ok (.iinc 6 1, 3) := dk_132 6 1 (dk_at dksX0_labels_11 0 rfl rfl)
theorem dX0_labels_255 : decode cX0_labels 255 = .ok (.goto (-103), 3) := dk_167 255 153 (dk_at dksX0_labels_11 3 rfl rfl)
theorem dX0_labels_258 : decode cX0_labels 258 = .ok (.iinc 4 1, 3) := dk_132 4 1 (dk_at dksX0_labels_11 6 rfl rfl)
theorem dX0_labels_261 : decode cX0_labels 261 = .ok (.goto (-207), 3) := dk_167 255 49 (dk_at dksX0_labels_11 9 rfl rfl)
theorem dX0_labels_264 : decode cX0_labels 264 = .ok (.return_, 1) := dk_177 (dk_at dksX0_labels_11 12 rfl rfl)
abbrev cX0_taken_2 : ByteArray := prog_1_method_38_code
def yX0_taken_2 : MethodName := ⟨RX0, "taken", "(III)I"⟩
def dkwX0_taken_2_2 : List UInt8 := [19, 1, 48, 172]
abbrev dktX0_taken_2_2 : List UInt8 := dkwX0_taken_2_2 ++ []
def dkwX0_taken_2_1 : List UInt8 := [96, 163, 0, 23, 42, 27, 28, 21, 4, 182, 0, 252, 153, 0, 6, 21, 4, 172, 132, 4, 1, 167, 255, 214]
abbrev dktX0_taken_2_1 : List UInt8 := dkwX0_taken_2_1 ++ dktX0_taken_2_2
def dkwX0_taken_2_0 : List UInt8 := [29, 54, 4, 21, 4, 42, 180, 0, 31, 27, 182, 0, 196, 180, 0, 238, 96, 42, 180, 1, 45, 17, 1, 144]
abbrev dktX0_taken_2_0 : List UInt8 := dkwX0_taken_2_0 ++ dktX0_taken_2_1
theorem dksX0_taken_2_0 : cX0_taken_2.data.toList.drop 0 = dktX0_taken_2_0 := by decide +kernel
theorem dksX0_taken_2_1 : cX0_taken_2.data.toList.drop 24 = dktX0_taken_2_1 := dk_seg dksX0_taken_2_0 24 rfl rfl
theorem dksX0_taken_2_2 : cX0_taken_2.data.toList.drop 48 = dktX0_taken_2_2 := dk_seg dksX0_taken_2_1 24 rfl rfl
theorem dX0_taken_2_0 : decode cX0_taken_2 0 = .ok (.iload_n 3, 1) := dk_29 (dk_at dksX0_taken_2_0 0 rfl rfl)
theorem dX0_taken_2_1 : decode cX0_taken_2 1 = .ok (.istore 4, 2) := dk_54 4 (dk_at dksX0_taken_2_0 1 rfl rfl)
theorem dX0_taken_2_3 : decode cX0_taken_2 3 = .ok (.iload 4, 2) := dk_21 4 (dk_at dksX0_taken_2_0 3 rfl rfl)
theorem dX0_taken_2_5 : decode cX0_taken_2 5 = .ok (.aload_n 0, 1) := dk_42 (dk_at dksX0_taken_2_0 5 rfl rfl)
theorem dX0_taken_2_6 : decode cX0_taken_2 6 = .ok (.getfield 31, 3) := dk_180 0 31 (dk_at dksX0_taken_2_0 6 rfl rfl)
theorem dX0_taken_2_9 : decode cX0_taken_2 9 = .ok (.iload_n 1, 1) := dk_27 (dk_at dksX0_taken_2_0 9 rfl rfl)
theorem dX0_taken_2_10 : decode cX0_taken_2 10 = .ok (.invokevirtual 196, 3) := dk_182 0 196 (dk_at dksX0_taken_2_0 10 rfl rfl)
theorem dX0_taken_2_13 : decode cX0_taken_2 13 = .ok (.getfield 238, 3) := dk_180 0 238 (dk_at dksX0_taken_2_0 13 rfl rfl)
theorem dX0_taken_2_16 : decode cX0_taken_2 16 = .ok (.iadd, 1) := dk_96 (dk_at dksX0_taken_2_0 16 rfl rfl)
theorem dX0_taken_2_17 : decode cX0_taken_2 17 = .ok (.aload_n 0, 1) := dk_42 (dk_at dksX0_taken_2_0 17 rfl rfl)
theorem dX0_taken_2_18 : decode cX0_taken_2 18 = .ok (.getfield 301, 3) := dk_180 1 45 (dk_at dksX0_taken_2_0 18 rfl rfl)
theorem dX0_taken_2_21 : decode cX0_taken_2 21 = .ok (.sipush 400, 3) := dk_17 1 144 (dk_at dksX0_taken_2_0 21 rfl rfl)
theorem dX0_taken_2_24 : decode cX0_taken_2 24 = .ok (.iadd, 1) := dk_96 (dk_at dksX0_taken_2_1 0 rfl rfl)
theorem dX0_taken_2_25 : decode cX0_taken_2 25 = .ok (.if_icmp .gt 23, 3) := dk_163 0 23 (dk_at dksX0_taken_2_1 1 rfl rfl)
theorem dX0_taken_2_28 : decode cX0_taken_2 28 = .ok (.aload_n 0, 1) := dk_42 (dk_at dksX0_taken_2_1 4 rfl rfl)
theorem dX0_taken_2_29 : decode cX0_taken_2 29 = .ok (.iload_n 1, 1) := dk_27 (dk_at dksX0_taken_2_1 5 rfl rfl)
theorem dX0_taken_2_30 : decode cX0_taken_2 30 = .ok (.iload_n 2, 1) := dk_28 (dk_at dksX0_taken_2_1 6 rfl rfl)
theorem dX0_taken_2_31 : decode cX0_taken_2 31 = .ok (.iload 4, 2) := dk_21 4 (dk_at dksX0_taken_2_1 7 rfl rfl)
theorem dX0_taken_2_33 : decode cX0_taken_2 33 = .ok (.invokevirtual 252, 3) := dk_182 0 252 (dk_at dksX0_taken_2_1 9 rfl rfl)
theorem dX0_taken_2_36 : decode cX0_taken_2 36 = .ok (.ifCond .eq 6, 3) := dk_153 0 6 (dk_at dksX0_taken_2_1 12 rfl rfl)
theorem dX0_taken_2_39 : decode cX0_taken_2 39 = .ok (.iload 4, 2) := dk_21 4 (dk_at dksX0_taken_2_1 15 rfl rfl)
theorem dX0_taken_2_41 : decode cX0_taken_2 41 = .ok (.ireturn, 1) := dk_172 (dk_at dksX0_taken_2_1 17 rfl rfl)
theorem dX0_taken_2_42 : decode cX0_taken_2 42 = .ok (.iinc 4 1, 3) := dk_132 4 1 (dk_at dksX0_taken_2_1 18 rfl rfl)
theorem dX0_taken_2_45 : decode cX0_taken_2 45 = .ok (.goto (-42), 3) := dk_167 255 214 (dk_at dksX0_taken_2_1 21 rfl rfl)
theorem dX0_taken_2_48 : decode cX0_taken_2 48 = .ok (.ldc_w 304, 3) := dk_19 1 48 (dk_at dksX0_taken_2_2 0 rfl rfl)
theorem dX0_taken_2_51 : decode cX0_taken_2 51 = .ok (.ireturn, 1) := dk_172 (dk_at dksX0_taken_2_2 3 rfl rfl)
abbrev cX0_comesBy : ByteArray := prog_1_method_41_code
def yX0_comesBy : MethodName := ⟨RX0, "comesBy", "(III)Z"⟩
def dkwX0_comesBy_3 : List UInt8 := [180, 0, 238, 96, 42, 180, 0, 81, 28, 46, 160, 0, 7, 4, 167, 0, 4, 3, 172]
abbrev dktX0_comesBy_3 : List UInt8 := dkwX0_comesBy_3 ++ []
def dkwX0_comesBy_2 : List UInt8 := [182, 1, 52, 54, 5, 21, 5, 19, 1, 48, 162, 0, 30, 21, 5, 42, 180, 0, 31, 27, 182, 0, 196]
abbrev dktX0_comesBy_2 : List UInt8 := dkwX0_comesBy_2 ++ dktX0_comesBy_3
def dkwX0_comesBy_1 : List UInt8 := [21, 4, 46, 42, 180, 0, 81, 28, 46, 161, 0, 5, 3, 172, 42, 27, 29, 42, 180, 0, 81, 21, 4, 46]
abbrev dktX0_comesBy_1 : List UInt8 := dkwX0_comesBy_1 ++ dktX0_comesBy_2
def dkwX0_comesBy_0 : List UInt8 := [42, 180, 0, 31, 27, 182, 0, 196, 28, 182, 1, 49, 54, 4, 21, 4, 2, 159, 0, 19, 42, 180, 0, 81]
abbrev dktX0_comesBy_0 : List UInt8 := dkwX0_comesBy_0 ++ dktX0_comesBy_1
theorem dksX0_comesBy_0 : cX0_comesBy.data.toList.drop 0 = dktX0_comesBy_0 := by decide +kernel
theorem dksX0_comesBy_1 : cX0_comesBy.data.toList.drop 24 = dktX0_comesBy_1 := dk_seg dksX0_comesBy_0 24 rfl rfl
theorem dksX0_comesBy_2 : cX0_comesBy.data.toList.drop 48 = dktX0_comesBy_2 := dk_seg dksX0_comesBy_1 24 rfl rfl
theorem dksX0_comesBy_3 : cX0_comesBy.data.toList.drop 71 = dktX0_comesBy_3 := dk_seg dksX0_comesBy_2 23 rfl rfl
theorem dX0_comesBy_0 : decode cX0_comesBy 0 = .ok (.aload_n 0, 1) := dk_42 (dk_at dksX0_comesBy_0 0 rfl rfl)
theorem dX0_comesBy_1 : decode cX0_comesBy 1 = .ok (.getfield 31, 3) := dk_180 0 31 (dk_at dksX0_comesBy_0 1 rfl rfl)
theorem dX0_comesBy_4 : decode cX0_comesBy 4 = .ok (.iload_n 1, 1) := dk_27 (dk_at dksX0_comesBy_0 4 rfl rfl)
theorem dX0_comesBy_5 : decode cX0_comesBy 5 = .ok (.invokevirtual 196, 3) := dk_182 0 196 (dk_at dksX0_comesBy_0 5 rfl rfl)
theorem dX0_comesBy_8 : decode cX0_comesBy 8 = .ok (.iload_n 2, 1) := dk_28 (dk_at dksX0_comesBy_0 8 rfl rfl)
theorem dX0_comesBy_9 : decode cX0_comesBy 9 = .ok (.invokevirtual 305, 3) := dk_182 1 49 (dk_at dksX0_comesBy_0 9 rfl rfl)
theorem dX0_comesBy_12 : decode cX0_comesBy 12 = .ok (.istore 4, 2) := dk_54 4 (dk_at dksX0_comesBy_0 12 rfl rfl)
theorem dX0_comesBy_14 : decode cX0_comesBy 14 = .ok (.iload 4, 2) := dk_21 4 (dk_at dksX0_comesBy_0 14 rfl rfl)
theorem dX0_comesBy_16 : decode cX0_comesBy 16 = .ok (.iconst (-1), 1) := dk_2 (dk_at dksX0_comesBy_0 16 rfl rfl)
theorem dX0_comesBy_17 : decode cX0_comesBy 17 = .ok (.if_icmp .eq 19, 3) := dk_159 0 19 (dk_at dksX0_comesBy_0 17 rfl rfl)
theorem dX0_comesBy_20 : decode cX0_comesBy 20 = .ok (.aload_n 0, 1) := dk_42 (dk_at dksX0_comesBy_0 20 rfl rfl)
theorem dX0_comesBy_21 : decode cX0_comesBy 21 = .ok (.getfield 81, 3) := dk_180 0 81 (dk_at dksX0_comesBy_0 21 rfl rfl)
theorem dX0_comesBy_24 : decode cX0_comesBy 24 = .ok (.iload 4, 2) := dk_21 4 (dk_at dksX0_comesBy_1 0 rfl rfl)
theorem dX0_comesBy_26 : decode cX0_comesBy 26 = .ok (.iaload, 1) := dk_46 (dk_at dksX0_comesBy_1 2 rfl rfl)
theorem dX0_comesBy_27 : decode cX0_comesBy 27 = .ok (.aload_n 0, 1) := dk_42 (dk_at dksX0_comesBy_1 3 rfl rfl)
theorem dX0_comesBy_28 : decode cX0_comesBy 28 = .ok (.getfield 81, 3) := dk_180 0 81 (dk_at dksX0_comesBy_1 4 rfl rfl)
theorem dX0_comesBy_31 : decode cX0_comesBy 31 = .ok (.iload_n 2, 1) := dk_28 (dk_at dksX0_comesBy_1 7 rfl rfl)
theorem dX0_comesBy_32 : decode cX0_comesBy 32 = .ok (.iaload, 1) := dk_46 (dk_at dksX0_comesBy_1 8 rfl rfl)
theorem dX0_comesBy_33 : decode cX0_comesBy 33 = .ok (.if_icmp .lt 5, 3) := dk_161 0 5 (dk_at dksX0_comesBy_1 9 rfl rfl)
theorem dX0_comesBy_36 : decode cX0_comesBy 36 = .ok (.iconst 0, 1) := dk_3 (dk_at dksX0_comesBy_1 12 rfl rfl)
theorem dX0_comesBy_37 : decode cX0_comesBy 37 = .ok (.ireturn, 1) := dk_172 (dk_at dksX0_comesBy_1 13 rfl rfl)
theorem dX0_comesBy_38 : decode cX0_comesBy 38 = .ok (.aload_n 0, 1) := dk_42 (dk_at dksX0_comesBy_1 14 rfl rfl)
theorem dX0_comesBy_39 : decode cX0_comesBy 39 = .ok (.iload_n 1, 1) := dk_27 (dk_at dksX0_comesBy_1 15 rfl rfl)
theorem dX0_comesBy_40 : decode cX0_comesBy 40 = .ok (.iload_n 3, 1) := dk_29 (dk_at dksX0_comesBy_1 16 rfl rfl)
theorem dX0_comesBy_41 : decode cX0_comesBy 41 = .ok (.aload_n 0, 1) := dk_42 (dk_at dksX0_comesBy_1 17 rfl rfl)
theorem dX0_comesBy_42 : decode cX0_comesBy 42 = .ok (.getfield 81, 3) := dk_180 0 81 (dk_at dksX0_comesBy_1 18 rfl rfl)
theorem dX0_comesBy_45 : decode cX0_comesBy 45 = .ok (.iload 4, 2) := dk_21 4 (dk_at dksX0_comesBy_1 21 rfl rfl)
theorem dX0_comesBy_47 : decode cX0_comesBy 47 = .ok (.iaload, 1) := dk_46 (dk_at dksX0_comesBy_1 23 rfl rfl)
theorem dX0_comesBy_48 : decode cX0_comesBy 48 = .ok (.invokevirtual 308, 3) := dk_182 1 52 (dk_at dksX0_comesBy_2 0 rfl rfl)
theorem dX0_comesBy_51 : decode cX0_comesBy 51 = .ok (.istore 5, 2) := dk_54 5 (dk_at dksX0_comesBy_2 3 rfl rfl)
theorem dX0_comesBy_53 : decode cX0_comesBy 53 = .ok (.iload 5, 2) := dk_21 5 (dk_at dksX0_comesBy_2 5 rfl rfl)
theorem dX0_comesBy_55 : decode cX0_comesBy 55 = .ok (.ldc_w 304, 3) := dk_19 1 48 (dk_at dksX0_comesBy_2 7 rfl rfl)
theorem dX0_comesBy_58 : decode cX0_comesBy 58 = .ok (.if_icmp .ge 30, 3) := dk_162 0 30 (dk_at dksX0_comesBy_2 10 rfl rfl)
theorem dX0_comesBy_61 : decode cX0_comesBy 61 = .ok (.iload 5, 2) := dk_21 5 (dk_at dksX0_comesBy_2 13 rfl rfl)
theorem dX0_comesBy_63 : decode cX0_comesBy 63 = .ok (.aload_n 0, 1) := dk_42 (dk_at dksX0_comesBy_2 15 rfl rfl)
theorem dX0_comesBy_64 : decode cX0_comesBy 64 = .ok (.getfield 31, 3) := dk_180 0 31 (dk_at dksX0_comesBy_2 16 rfl rfl)
theorem dX0_comesBy_67 : decode cX0_comesBy 67 = .ok (.iload_n 1, 1) := dk_27 (dk_at dksX0_comesBy_2 19 rfl rfl)
theorem dX0_comesBy_68 : decode cX0_comesBy 68 = .ok (.invokevirtual 196, 3) := dk_182 0 196 (dk_at dksX0_comesBy_2 20 rfl rfl)
theorem dX0_comesBy_71 : decode cX0_comesBy 71 = .ok (.getfield 238, 3) := dk_180 0 238 (dk_at dksX0_comesBy_3 0 rfl rfl)
theorem dX0_comesBy_74 : decode cX0_comesBy 74 = .ok (.iadd, 1) := dk_96 (dk_at dksX0_comesBy_3 3 rfl rfl)
theorem dX0_comesBy_75 : decode cX0_comesBy 75 = .ok (.aload_n 0, 1) := dk_42 (dk_at dksX0_comesBy_3 4 rfl rfl)
theorem dX0_comesBy_76 : decode cX0_comesBy 76 = .ok (.getfield 81, 3) := dk_180 0 81 (dk_at dksX0_comesBy_3 5 rfl rfl)
theorem dX0_comesBy_79 : decode cX0_comesBy 79 = .ok (.iload_n 2, 1) := dk_28 (dk_at dksX0_comesBy_3 8 rfl rfl)
theorem dX0_comesBy_80 : decode cX0_comesBy 80 = .ok (.iaload, 1) := dk_46 (dk_at dksX0_comesBy_3 9 rfl rfl)
theorem dX0_comesBy_81 : decode cX0_comesBy 81 = .ok (.if_icmp .ne 7, 3) := dk_160 0 7 (dk_at dksX0_comesBy_3 10 rfl rfl)
theorem dX0_comesBy_84 : decode cX0_comesBy 84 = .ok (.iconst 1, 1) := dk_4 (dk_at dksX0_comesBy_3 13 rfl rfl)
theorem dX0_comesBy_85 : decode cX0_comesBy 85 = .ok (.goto 4, 3) := dk_167 0 4 (dk_at dksX0_comesBy_3 14 rfl rfl)
theorem dX0_comesBy_88 : decode cX0_comesBy 88 = .ok (.iconst 0, 1) := dk_3 (dk_at dksX0_comesBy_3 17 rfl rfl)
theorem dX0_comesBy_89 : decode cX0_comesBy 89 = .ok (.ireturn, 1) := dk_172 (dk_at dksX0_comesBy_3 18 rfl rfl)
abbrev cX0_arrival : ByteArray := prog_1_method_44_code
def yX0_arrival : MethodName := ⟨RX0, "arrival", "(II)I"⟩
def dkwX0_arrival_2 : List UInt8 := [42, 180, 0, 81, 28, 46, 19, 1, 48, 162, 0, 12, 42, 180, 0, 81, 28, 46, 167, 0, 4, 2, 172]
abbrev dktX0_arrival_2 : List UInt8 := dkwX0_arrival_2 ++ []
def dkwX0_arrival_1 : List UInt8 := [180, 1, 39, 27, 46, 42, 180, 0, 31, 27, 182, 1, 30, 180, 1, 34, 42, 27, 182, 1, 66, 182, 1, 56]
abbrev dktX0_arrival_1 : List UInt8 := dkwX0_arrival_1 ++ dktX0_arrival_2
def dkwX0_arrival_0 : List UInt8 := [42, 27, 182, 1, 27, 153, 0, 11, 42, 28, 182, 1, 75, 154, 0, 5, 2, 172, 42, 42, 180, 0, 69]
abbrev dktX0_arrival_0 : List UInt8 := dkwX0_arrival_0 ++ dktX0_arrival_1
theorem dksX0_arrival_0 : cX0_arrival.data.toList.drop 0 = dktX0_arrival_0 := by decide +kernel
theorem dksX0_arrival_1 : cX0_arrival.data.toList.drop 23 = dktX0_arrival_1 := dk_seg dksX0_arrival_0 23 rfl rfl
theorem dksX0_arrival_2 : cX0_arrival.data.toList.drop 47 = dktX0_arrival_2 := dk_seg dksX0_arrival_1 24 rfl rfl
theorem dX0_arrival_0 : decode cX0_arrival 0 = .ok (.aload_n 0, 1) := dk_42 (dk_at dksX0_arrival_0 0 rfl rfl)
theorem dX0_arrival_1 : decode cX0_arrival 1 = .ok (.iload_n 1, 1) := dk_27 (dk_at dksX0_arrival_0 1 rfl rfl)
theorem dX0_arrival_2 : decode cX0_arrival 2 = .ok (.invokevirtual 283, 3) := dk_182 1 27 (dk_at dksX0_arrival_0 2 rfl rfl)
theorem dX0_arrival_5 : decode cX0_arrival 5 = .ok (.ifCond .eq 11, 3) := dk_153 0 11 (dk_at dksX0_arrival_0 5 rfl rfl)
theorem dX0_arrival_8 : decode cX0_arrival 8 = .ok (.aload_n 0, 1) := dk_42 (dk_at dksX0_arrival_0 8 rfl rfl)
theorem dX0_arrival_9 : decode cX0_arrival 9 = .ok (.iload_n 2, 1) := dk_28 (dk_at dksX0_arrival_0 9 rfl rfl)
theorem dX0_arrival_10 : decode cX0_arrival 10 = .ok (.invokevirtual 331, 3) := dk_182 1 75 (dk_at dksX0_arrival_0 10 rfl rfl)
theorem dX0_arrival_13 : decode cX0_arrival 13 = .ok (.ifCond .ne 5, 3) := dk_154 0 5 (dk_at dksX0_arrival_0 13 rfl rfl)
theorem dX0_arrival_16 : decode cX0_arrival 16 = .ok (.iconst (-1), 1) := dk_2 (dk_at dksX0_arrival_0 16 rfl rfl)
theorem dX0_arrival_17 : decode cX0_arrival 17 = .ok (.ireturn, 1) := dk_172 (dk_at dksX0_arrival_0 17 rfl rfl)
theorem dX0_arrival_18 : decode cX0_arrival 18 = .ok (.aload_n 0, 1) := dk_42 (dk_at dksX0_arrival_0 18 rfl rfl)
theorem dX0_arrival_19 : decode cX0_arrival 19 = .ok (.aload_n 0, 1) := dk_42 (dk_at dksX0_arrival_0 19 rfl rfl)
theorem dX0_arrival_20 : decode cX0_arrival 20 = .ok (.getfield 69, 3) := dk_180 0 69 (dk_at dksX0_arrival_0 20 rfl rfl)
theorem dX0_arrival_23 : decode cX0_arrival 23 = .ok (.getfield 295, 3) := dk_180 1 39 (dk_at dksX0_arrival_1 0 rfl rfl)
theorem dX0_arrival_26 : decode cX0_arrival 26 = .ok (.iload_n 1, 1) := dk_27 (dk_at dksX0_arrival_1 3 rfl rfl)
theorem dX0_arrival_27 : decode cX0_arrival 27 = .ok (.iaload, 1) := dk_46 (dk_at dksX0_arrival_1 4 rfl rfl)
theorem dX0_arrival_28 : decode cX0_arrival 28 = .ok (.aload_n 0, 1) := dk_42 (dk_at dksX0_arrival_1 5 rfl rfl)
theorem dX0_arrival_29 : decode cX0_arrival 29 = .ok (.getfield 31, 3) := dk_180 0 31 (dk_at dksX0_arrival_1 6 rfl rfl)
theorem dX0_arrival_32 : decode cX0_arrival 32 = .ok (.iload_n 1, 1) := dk_27 (dk_at dksX0_arrival_1 9 rfl rfl)
theorem dX0_arrival_33 : decode cX0_arrival 33 = .ok (.invokevirtual 286, 3) := dk_182 1 30 (dk_at dksX0_arrival_1 10 rfl rfl)
theorem dX0_arrival_36 : decode cX0_arrival 36 = .ok (.getfield 290, 3) := dk_180 1 34 (dk_at dksX0_arrival_1 13 rfl rfl)
theorem dX0_arrival_39 : decode cX0_arrival 39 = .ok (.aload_n 0, 1) := dk_42 (dk_at dksX0_arrival_1 16 rfl rfl)
theorem dX0_arrival_40 : decode cX0_arrival 40 = .ok (.iload_n 1, 1) := dk_27 (dk_at dksX0_arrival_1 17 rfl rfl)
theorem dX0_arrival_41 : decode cX0_arrival 41 = .ok (.invokevirtual 322, 3) := dk_182 1 66 (dk_at dksX0_arrival_1 18 rfl rfl)
theorem dX0_arrival_44 : decode cX0_arrival 44 = .ok (.invokevirtual 312, 3) := dk_182 1 56 (dk_at dksX0_arrival_1 21 rfl rfl)
theorem dX0_arrival_47 : decode cX0_arrival 47 = .ok (.aload_n 0, 1) := dk_42 (dk_at dksX0_arrival_2 0 rfl rfl)
theorem dX0_arrival_48 : decode cX0_arrival 48 = .ok (.getfield 81, 3) := dk_180 0 81 (dk_at dksX0_arrival_2 1 rfl rfl)
theorem dX0_arrival_51 : decode cX0_arrival 51 = .ok (.iload_n 2, 1) := dk_28 (dk_at dksX0_arrival_2 4 rfl rfl)
theorem dX0_arrival_52 : decode cX0_arrival 52 = .ok (.iaload, 1) := dk_46 (dk_at dksX0_arrival_2 5 rfl rfl)
theorem dX0_arrival_53 : decode cX0_arrival 53 = .ok (.ldc_w 304, 3) := dk_19 1 48 (dk_at dksX0_arrival_2 6 rfl rfl)
theorem dX0_arrival_56 : decode cX0_arrival 56 = .ok (.if_icmp .ge 12, 3) := dk_162 0 12 (dk_at dksX0_arrival_2 9 rfl rfl)
theorem dX0_arrival_59 : decode cX0_arrival 59 = .ok (.aload_n 0, 1) := dk_42 (dk_at dksX0_arrival_2 12 rfl rfl)
theorem dX0_arrival_60 : decode cX0_arrival 60 = .ok (.getfield 81, 3) := dk_180 0 81 (dk_at dksX0_arrival_2 13 rfl rfl)
theorem dX0_arrival_63 : decode cX0_arrival 63 = .ok (.iload_n 2, 1) := dk_28 (dk_at dksX0_arrival_2 16 rfl rfl)
theorem dX0_arrival_64 : decode cX0_arrival 64 = .ok (.iaload, 1) := dk_46 (dk_at dksX0_arrival_2 17 rfl rfl)
theorem dX0_arrival_65 : decode cX0_arrival 65 = .ok (.goto 4, 3) := dk_167 0 4 (dk_at dksX0_arrival_2 18 rfl rfl)
theorem dX0_arrival_68 : decode cX0_arrival 68 = .ok (.iconst (-1), 1) := dk_2 (dk_at dksX0_arrival_2 21 rfl rfl)
theorem dX0_arrival_69 : decode cX0_arrival 69 = .ok (.ireturn, 1) := dk_172 (dk_at dksX0_arrival_2 22 rfl rfl)
abbrev cX0_isPlace : ByteArray := prog_1_method_18_code
def yX0_isPlace : MethodName := ⟨RX0, "isPlace", "(I)Z"⟩
def dkwX0_isPlace_0 : List UInt8 := [27, 155, 0, 15, 27, 42, 182, 0, 183, 162, 0, 7, 4, 167, 0, 4, 3, 172]
abbrev dktX0_isPlace_0 : List UInt8 := dkwX0_isPlace_0 ++ []
theorem dksX0_isPlace_0 : cX0_isPlace.data.toList.drop 0 = dktX0_isPlace_0 := by decide +kernel
theorem dX0_isPlace_0 : decode cX0_isPlace 0 = .ok (.iload_n 1, 1) := dk_27 (dk_at dksX0_isPlace_0 0 rfl rfl)
theorem dX0_isPlace_1 : decode cX0_isPlace 1 = .ok (.ifCond .lt 15, 3) := dk_155 0 15 (dk_at dksX0_isPlace_0 1 rfl rfl)
theorem dX0_isPlace_4 : decode cX0_isPlace 4 = .ok (.iload_n 1, 1) := dk_27 (dk_at dksX0_isPlace_0 4 rfl rfl)
theorem dX0_isPlace_5 : decode cX0_isPlace 5 = .ok (.aload_n 0, 1) := dk_42 (dk_at dksX0_isPlace_0 5 rfl rfl)
theorem dX0_isPlace_6 : decode cX0_isPlace 6 = .ok (.invokevirtual 183, 3) := dk_182 0 183 (dk_at dksX0_isPlace_0 6 rfl rfl)
theorem dX0_isPlace_9 : decode cX0_isPlace 9 = .ok (.if_icmp .ge 7, 3) := dk_162 0 7 (dk_at dksX0_isPlace_0 9 rfl rfl)
theorem dX0_isPlace_12 : decode cX0_isPlace 12 = .ok (.iconst 1, 1) := dk_4 (dk_at dksX0_isPlace_0 12 rfl rfl)
theorem dX0_isPlace_13 : decode cX0_isPlace 13 = .ok (.goto 4, 3) := dk_167 0 4 (dk_at dksX0_isPlace_0 13 rfl rfl)
theorem dX0_isPlace_16 : decode cX0_isPlace 16 = .ok (.iconst 0, 1) := dk_3 (dk_at dksX0_isPlace_0 16 rfl rfl)
theorem dX0_isPlace_17 : decode cX0_isPlace 17 = .ok (.ireturn, 1) := dk_172 (dk_at dksX0_isPlace_0 17 rfl rfl)
abbrev cX0_stuck : ByteArray := prog_1_method_46_code
def yX0_stuck : MethodName := ⟨RX0, "stuck", "(II)I"⟩
def dkwX0_stuck_7 : List UInt8 := [21, 5, 54, 5, 167, 255, 149, 28, 154, 0, 8, 21, 4, 167, 0, 5, 21, 5, 172]
abbrev dktX0_stuck_7 : List UInt8 := dkwX0_stuck_7 ++ []
def dkwX0_stuck_6 : List UInt8 := [159, 0, 8, 21, 7, 167, 0, 5, 21, 4, 54, 4, 21, 7, 2, 159, 0, 8, 21, 6, 167, 0, 5]
abbrev dktX0_stuck_6 : List UInt8 := dkwX0_stuck_6 ++ dktX0_stuck_7
def dkwX0_stuck_5 : List UInt8 := [180, 1, 34, 42, 27, 182, 1, 66, 42, 180, 0, 94, 29, 46, 96, 182, 1, 84, 54, 7, 21, 7, 2]
abbrev dktX0_stuck_5 : List UInt8 := dkwX0_stuck_5 ++ dktX0_stuck_6
def dkwX0_stuck_4 : List UInt8 := [180, 0, 31, 21, 6, 182, 0, 196, 29, 182, 1, 49, 62, 42, 21, 6, 42, 180, 0, 31, 27, 182, 1, 30]
abbrev dktX0_stuck_4 : List UInt8 := dkwX0_stuck_4 ++ dktX0_stuck_5
def dkwX0_stuck_3 : List UInt8 := [159, 0, 100, 3, 54, 6, 42, 21, 6, 29, 182, 1, 81, 154, 0, 9, 132, 6, 1, 167, 255, 243, 42]
abbrev dktX0_stuck_3 : List UInt8 := dkwX0_stuck_3 ++ dktX0_stuck_4
def dkwX0_stuck_2 : List UInt8 := [19, 1, 48, 161, 0, 5, 2, 172, 2, 54, 4, 2, 54, 5, 29, 42, 180, 0, 69, 180, 1, 39, 27, 46]
abbrev dktX0_stuck_2 : List UInt8 := dkwX0_stuck_2 ++ dktX0_stuck_3
def dkwX0_stuck_1 : List UInt8 := [180, 1, 39, 27, 46, 182, 1, 78, 42, 180, 0, 69, 180, 1, 41, 27, 46, 62, 42, 180, 0, 94, 29, 46]
abbrev dktX0_stuck_1 : List UInt8 := dkwX0_stuck_1 ++ dktX0_stuck_2
def dkwX0_stuck_0 : List UInt8 := [42, 27, 182, 1, 27, 153, 0, 12, 28, 3, 4, 184, 0, 192, 154, 0, 5, 2, 172, 42, 42, 180, 0, 69]
abbrev dktX0_stuck_0 : List UInt8 := dkwX0_stuck_0 ++ dktX0_stuck_1
theorem dksX0_stuck_0 : cX0_stuck.data.toList.drop 0 = dktX0_stuck_0 := by decide +kernel
theorem dksX0_stuck_1 : cX0_stuck.data.toList.drop 24 = dktX0_stuck_1 := dk_seg dksX0_stuck_0 24 rfl rfl
theorem dksX0_stuck_2 : cX0_stuck.data.toList.drop 48 = dktX0_stuck_2 := dk_seg dksX0_stuck_1 24 rfl rfl
theorem dksX0_stuck_3 : cX0_stuck.data.toList.drop 72 = dktX0_stuck_3 := dk_seg dksX0_stuck_2 24 rfl rfl
theorem dksX0_stuck_4 : cX0_stuck.data.toList.drop 95 = dktX0_stuck_4 := dk_seg dksX0_stuck_3 23 rfl rfl
theorem dksX0_stuck_5 : cX0_stuck.data.toList.drop 119 = dktX0_stuck_5 := dk_seg dksX0_stuck_4 24 rfl rfl
theorem dksX0_stuck_6 : cX0_stuck.data.toList.drop 142 = dktX0_stuck_6 := dk_seg dksX0_stuck_5 23 rfl rfl
theorem dksX0_stuck_7 : cX0_stuck.data.toList.drop 165 = dktX0_stuck_7 := dk_seg dksX0_stuck_6 23 rfl rfl
theorem dX0_stuck_0 : decode cX0_stuck 0 = .ok (.aload_n 0, 1) := dk_42 (dk_at dksX0_stuck_0 0 rfl rfl)
theorem dX0_stuck_1 : decode cX0_stuck 1 = .ok (.iload_n 1, 1) := dk_27 (dk_at dksX0_stuck_0 1 rfl rfl)
theorem dX0_stuck_2 : decode cX0_stuck 2 = .ok (.invokevirtual 283, 3) := dk_182 1 27 (dk_at dksX0_stuck_0 2 rfl rfl)
theorem dX0_stuck_5 : decode cX0_stuck 5 = .ok (.ifCond .eq 12, 3) := dk_153 0 12 (dk_at dksX0_stuck_0 5 rfl rfl)
theorem dX0_stuck_8 : decode cX0_stuck 8 = .ok (.iload_n 2, 1) := dk_28 (dk_at dksX0_stuck_0 8 rfl rfl)
theorem dX0_stuck_9 : decode cX0_stuck 9 = .ok (.iconst 0, 1) := dk_3 (dk_at dksX0_stuck_0 9 rfl rfl)
theorem dX0_stuck_10 : decode cX0_stuck 10 = .ok (.iconst 1, 1) := dk_4 (dk_at dksX0_stuck_0 10 rfl rfl)
theorem dX0_stuck_11 : decode cX0_stuck 11 = .ok (.invokestatic 192, 3) := dk_184 0 192 (dk_at dksX0_stuck_0 11 rfl rfl)
theorem dX0_stuck_14 : decode cX0_stuck 14 = .ok (.ifCond .ne 5, 3) := dk_154 0 5 (dk_at dksX0_stuck_0 14 rfl rfl)
theorem dX0_stuck_17 : decode cX0_stuck 17 = .ok (.iconst (-1), 1) := dk_2 (dk_at dksX0_stuck_0 17 rfl rfl)
theorem dX0_stuck_18 : decode cX0_stuck 18 = .ok (.ireturn, 1) := dk_172 (dk_at dksX0_stuck_0 18 rfl rfl)
theorem dX0_stuck_19 : decode cX0_stuck 19 = .ok (.aload_n 0, 1) := dk_42 (dk_at dksX0_stuck_0 19 rfl rfl)
theorem dX0_stuck_20 : decode cX0_stuck 20 = .ok (.aload_n 0, 1) := dk_42 (dk_at dksX0_stuck_0 20 rfl rfl)
theorem dX0_stuck_21 : decode cX0_stuck 21 = .ok (.getfield 69, 3) := dk_180 0 69 (dk_at dksX0_stuck_0 21 rfl rfl)
theorem dX0_stuck_24 : decode cX0_stuck 24 = .ok (.getfield 295, 3) := dk_180 1 39 (dk_at dksX0_stuck_1 0 rfl rfl)
theorem dX0_stuck_27 : decode cX0_stuck 27 = .ok (.iload_n 1, 1) := dk_27 (dk_at dksX0_stuck_1 3 rfl rfl)
theorem dX0_stuck_28 : decode cX0_stuck 28 = .ok (.iaload, 1) := dk_46 (dk_at dksX0_stuck_1 4 rfl rfl)
theorem dX0_stuck_29 : decode cX0_stuck 29 = .ok (.invokevirtual 334, 3) := dk_182 1 78 (dk_at dksX0_stuck_1 5 rfl rfl)
theorem dX0_stuck_32 : decode cX0_stuck 32 = .ok (.aload_n 0, 1) := dk_42 (dk_at dksX0_stuck_1 8 rfl rfl)
theorem dX0_stuck_33 : decode cX0_stuck 33 = .ok (.getfield 69, 3) := dk_180 0 69 (dk_at dksX0_stuck_1 9 rfl rfl)
theorem dX0_stuck_36 : decode cX0_stuck 36 = .ok (.getfield 297, 3) := dk_180 1 41 (dk_at dksX0_stuck_1 12 rfl rfl)
theorem dX0_stuck_39 : decode cX0_stuck 39 = .ok (.iload_n 1, 1) := dk_27 (dk_at dksX0_stuck_1 15 rfl rfl)
theorem dX0_stuck_40 : decode cX0_stuck 40 = .ok (.iaload, 1) := dk_46 (dk_at dksX0_stuck_1 16 rfl rfl)
theorem dX0_stuck_41 : decode cX0_stuck 41 = .ok (.istore_n 3, 1) := dk_62 (dk_at dksX0_stuck_1 17 rfl rfl)
theorem dX0_stuck_42 : decode cX0_stuck 42 = .ok (.aload_n 0, 1) := dk_42 (dk_at dksX0_stuck_1 18 rfl rfl)
theorem dX0_stuck_43 : decode cX0_stuck 43 = .ok (.getfield 94, 3) := dk_180 0 94 (dk_at dksX0_stuck_1 19 rfl rfl)
theorem dX0_stuck_46 : decode cX0_stuck 46 = .ok (.iload_n 3, 1) := dk_29 (dk_at dksX0_stuck_1 22 rfl rfl)
theorem dX0_stuck_47 : decode cX0_stuck 47 = .ok (.iaload, 1) := dk_46 (dk_at dksX0_stuck_1 23 rfl rfl)
theorem dX0_stuck_48 : decode cX0_stuck 48 = .ok (.ldc_w 304, 3) := dk_19 1 48 (dk_at dksX0_stuck_2 0 rfl rfl)
theorem dX0_stuck_51 : decode cX0_stuck 51 = .ok (.if_icmp .lt 5, 3) := dk_161 0 5 (dk_at dksX0_stuck_2 3 rfl rfl)
theorem dX0_stuck_54 : decode cX0_stuck 54 = .ok (.iconst (-1), 1) := dk_2 (dk_at dksX0_stuck_2 6 rfl rfl)
theorem dX0_stuck_55 : decode cX0_stuck 55 = .ok (.ireturn, 1) := dk_172 (dk_at dksX0_stuck_2 7 rfl rfl)
theorem dX0_stuck_56 : decode cX0_stuck 56 = .ok (.iconst (-1), 1) := dk_2 (dk_at dksX0_stuck_2 8 rfl rfl)
theorem dX0_stuck_57 : decode cX0_stuck 57 = .ok (.istore 4, 2) := dk_54 4 (dk_at dksX0_stuck_2 9 rfl rfl)
theorem dX0_stuck_59 : decode cX0_stuck 59 = .ok (.iconst (-1), 1) := dk_2 (dk_at dksX0_stuck_2 11 rfl rfl)
theorem dX0_stuck_60 : decode cX0_stuck 60 = .ok (.istore 5, 2) := dk_54 5 (dk_at dksX0_stuck_2 12 rfl rfl)
theorem dX0_stuck_62 : decode cX0_stuck 62 = .ok (.iload_n 3, 1) := dk_29 (dk_at dksX0_stuck_2 14 rfl rfl)
theorem dX0_stuck_63 : decode cX0_stuck 63 = .ok (.aload_n 0, 1) := dk_42 (dk_at dksX0_stuck_2 15 rfl rfl)
theorem dX0_stuck_64 : decode cX0_stuck 64 = .ok (.getfield 69, 3) := dk_180 0 69 (dk_at dksX0_stuck_2 16 rfl rfl)
theorem dX0_stuck_67 : decode cX0_stuck 67 = .ok (.getfield 295, 3) := dk_180 1 39 (dk_at dksX0_stuck_2 19 rfl rfl)
theorem dX0_stuck_70 : decode cX0_stuck 70 = .ok (.iload_n 1, 1) := dk_27 (dk_at dksX0_stuck_2 22 rfl rfl)
theorem dX0_stuck_71 : decode cX0_stuck 71 = .ok (.iaload, 1) := dk_46 (dk_at dksX0_stuck_2 23 rfl rfl)
theorem dX0_stuck_72 : decode cX0_stuck 72 = .ok (.if_icmp .eq 100, 3) := dk_159 0 100 (dk_at dksX0_stuck_3 0 rfl rfl)
theorem dX0_stuck_75 : decode cX0_stuck 75 = .ok (.iconst 0, 1) := dk_3 (dk_at dksX0_stuck_3 3 rfl rfl)
theorem dX0_stuck_76 : decode cX0_stuck 76 = .ok (.istore 6, 2) := dk_54 6 (dk_at dksX0_stuck_3 4 rfl rfl)
theorem dX0_stuck_78 : decode cX0_stuck 78 = .ok (.aload_n 0, 1) := dk_42 (dk_at dksX0_stuck_3 6 rfl rfl)
theorem dX0_stuck_79 : decode cX0_stuck 79 = .ok (.iload 6, 2) := dk_21 6 (dk_at dksX0_stuck_3 7 rfl rfl)
theorem dX0_stuck_81 : decode cX0_stuck 81 = .ok (.iload_n 3, 1) := dk_29 (dk_at dksX0_stuck_3 9 rfl rfl)
theorem dX0_stuck_82 : decode cX0_stuck 82 = .ok (.invokevirtual 337, 3) := dk_182 1 81 (dk_at dksX0_stuck_3 10 rfl rfl)
theorem dX0_stuck_85 : decode cX0_stuck 85 = .ok (.ifCond .ne 9, 3) := dk_154 0 9 (dk_at dksX0_stuck_3 13 rfl rfl)
theorem dX0_stuck_88 : decode cX0_stuck 88 = .ok (.iinc 6 1, 3) := dk_132 6 1 (dk_at dksX0_stuck_3 16 rfl rfl)
theorem dX0_stuck_91 : decode cX0_stuck 91 = .ok (.goto (-13), 3) := dk_167 255 243 (dk_at dksX0_stuck_3 19 rfl rfl)
theorem dX0_stuck_94 : decode cX0_stuck 94 = .ok (.aload_n 0, 1) := dk_42 (dk_at dksX0_stuck_3 22 rfl rfl)
theorem dX0_stuck_95 : decode cX0_stuck 95 = .ok (.getfield 31, 3) := dk_180 0 31 (dk_at dksX0_stuck_4 0 rfl rfl)
theorem dX0_stuck_98 : decode cX0_stuck 98 = .ok (.iload 6, 2) := dk_21 6 (dk_at dksX0_stuck_4 3 rfl rfl)
theorem dX0_stuck_100 : decode cX0_stuck 100 = .ok (.invokevirtual 196, 3) := dk_182 0 196 (dk_at dksX0_stuck_4 5 rfl rfl)
theorem dX0_stuck_103 : decode cX0_stuck 103 = .ok (.iload_n 3, 1) := dk_29 (dk_at dksX0_stuck_4 8 rfl rfl)
theorem dX0_stuck_104 : decode cX0_stuck 104 = .ok (.invokevirtual 305, 3) := dk_182 1 49 (dk_at dksX0_stuck_4 9 rfl rfl)
theorem dX0_stuck_107 : decode cX0_stuck 107 = .ok (.istore_n 3, 1) := dk_62 (dk_at dksX0_stuck_4 12 rfl rfl)
theorem dX0_stuck_108 : decode cX0_stuck 108 = .ok (.aload_n 0, 1) := dk_42 (dk_at dksX0_stuck_4 13 rfl rfl)
theorem dX0_stuck_109 : decode cX0_stuck 109 = .ok (.iload 6, 2) := dk_21 6 (dk_at dksX0_stuck_4 14 rfl rfl)
theorem dX0_stuck_111 : decode cX0_stuck 111 = .ok (.aload_n 0, 1) := dk_42 (dk_at dksX0_stuck_4 16 rfl rfl)
theorem dX0_stuck_112 : decode cX0_stuck 112 = .ok (.getfield 31, 3) := dk_180 0 31 (dk_at dksX0_stuck_4 17 rfl rfl)
theorem dX0_stuck_115 : decode cX0_stuck 115 = .ok (.iload_n 1, 1) := dk_27 (dk_at dksX0_stuck_4 20 rfl rfl)
theorem dX0_stuck_116 : decode cX0_stuck 116 = .ok (.invokevirtual 286, 3) := dk_182 1 30 (dk_at dksX0_stuck_4 21 rfl rfl)
theorem dX0_stuck_119 : decode cX0_stuck 119 = .ok (.getfield 290, 3) := dk_180 1 34 (dk_at dksX0_stuck_5 0 rfl rfl)
theorem dX0_stuck_122 : decode cX0_stuck 122 = .ok (.aload_n 0, 1) := dk_42 (dk_at dksX0_stuck_5 3 rfl rfl)
theorem dX0_stuck_123 : decode cX0_stuck 123 = .ok (.iload_n 1, 1) := dk_27 (dk_at dksX0_stuck_5 4 rfl rfl)
theorem dX0_stuck_124 : decode cX0_stuck 124 = .ok (.invokevirtual 322, 3) := dk_182 1 66 (dk_at dksX0_stuck_5 5 rfl rfl)
theorem dX0_stuck_127 : decode cX0_stuck 127 = .ok (.aload_n 0, 1) := dk_42 (dk_at dksX0_stuck_5 8 rfl rfl)
theorem dX0_stuck_128 : decode cX0_stuck 128 = .ok (.getfield 94, 3) := dk_180 0 94 (dk_at dksX0_stuck_5 9 rfl rfl)
theorem dX0_stuck_131 : decode cX0_stuck 131 = .ok (.iload_n 3, 1) := dk_29 (dk_at dksX0_stuck_5 12 rfl rfl)
theorem dX0_stuck_132 : decode cX0_stuck 132 = .ok (.iaload, 1) := dk_46 (dk_at dksX0_stuck_5 13 rfl rfl)
theorem dX0_stuck_133 : decode cX0_stuck 133 = .ok (.iadd, 1) := dk_96 (dk_at dksX0_stuck_5 14 rfl rfl)
theorem dX0_stuck_134 : decode cX0_stuck 134 = .ok (.invokevirtual 340, 3) := dk_182 1 84 (dk_at dksX0_stuck_5 15 rfl rfl)
theorem dX0_stuck_137 : decode cX0_stuck 137 = .ok (.istore 7, 2) := dk_54 7 (dk_at dksX0_stuck_5 18 rfl rfl)
theorem dX0_stuck_139 : decode cX0_stuck 139 = .ok (.iload 7, 2) := dk_21 7 (dk_at dksX0_stuck_5 20 rfl rfl)
theorem dX0_stuck_141 : decode cX0_stuck 141 = .ok (.iconst (-1), 1) := dk_2 (dk_at dksX0_stuck_5 22 rfl rfl)
theorem dX0_stuck_142 : decode cX0_stuck 142 = .ok (.if_icmp .eq 8, 3) := dk_159 0 8 (dk_at dksX0_stuck_6 0 rfl rfl)
theorem dX0_stuck_145 : decode cX0_stuck 145 = .ok (.iload 7, 2) := dk_21 7 (dk_at dksX0_stuck_6 3 rfl rfl)
theorem dX0_stuck_147 : decode cX0_stuck 147 = .ok (.goto 5, 3) := dk_167 0 5 (dk_at dksX0_stuck_6 5 rfl rfl)
theorem dX0_stuck_150 : decode cX0_stuck 150 = .ok (.iload 4, 2) := dk_21 4 (dk_at dksX0_stuck_6 8 rfl rfl)
theorem dX0_stuck_152 : decode cX0_stuck 152 = .ok (.istore 4, 2) := dk_54 4 (dk_at dksX0_stuck_6 10 rfl rfl)
theorem dX0_stuck_154 : decode cX0_stuck 154 = .ok (.iload 7, 2) := dk_21 7 (dk_at dksX0_stuck_6 12 rfl rfl)
theorem dX0_stuck_156 : decode cX0_stuck 156 = .ok (.iconst (-1), 1) := dk_2 (dk_at dksX0_stuck_6 14 rfl rfl)
theorem dX0_stuck_157 : decode cX0_stuck 157 = .ok (.if_icmp .eq 8, 3) := dk_159 0 8 (dk_at dksX0_stuck_6 15 rfl rfl)
theorem dX0_stuck_160 : decode cX0_stuck 160 = .ok (.iload 6, 2) := dk_21 6 (dk_at dksX0_stuck_6 18 rfl rfl)
theorem dX0_stuck_162 : decode cX0_stuck 162 = .ok (.goto 5, 3) := dk_167 0 5 (dk_at dksX0_stuck_6 20 rfl rfl)
theorem dX0_stuck_165 : decode cX0_stuck 165 = .ok (.iload 5, 2) := dk_21 5 (dk_at dksX0_stuck_7 0 rfl rfl)
theorem dX0_stuck_167 : decode cX0_stuck 167 = .ok (.istore 5, 2) := dk_54 5 (dk_at dksX0_stuck_7 2 rfl rfl)
theorem dX0_stuck_169 : decode cX0_stuck 169 = .ok (.goto (-107), 3) := dk_167 255 149 (dk_at dksX0_stuck_7 4 rfl rfl)
theorem dX0_stuck_172 : decode cX0_stuck 172 = .ok (.iload_n 2, 1) := dk_28 (dk_at dksX0_stuck_7 7 rfl rfl)
theorem dX0_stuck_173 : decode cX0_stuck 173 = .ok (.ifCond .ne 8, 3) := dk_154 0 8 (dk_at dksX0_stuck_7 8 rfl rfl)
theorem dX0_stuck_176 : decode cX0_stuck 176 = .ok (.iload 4, 2) := dk_21 4 (dk_at dksX0_stuck_7 11 rfl rfl)
theorem dX0_stuck_178 : decode cX0_stuck 178 = .ok (.goto 5, 3) := dk_167 0 5 (dk_at dksX0_stuck_7 13 rfl rfl)
theorem dX0_stuck_181 : decode cX0_stuck 181 = .ok (.iload 5, 2) := dk_21 5 (dk_at dksX0_stuck_7 16 rfl rfl)
theorem dX0_stuck_183 : decode cX0_stuck 183 = .ok (.ireturn, 1) := dk_172 (dk_at dksX0_stuck_7 18 rfl rfl)
abbrev cX0_shortest : ByteArray := prog_1_method_45_code
def yX0_shortest : MethodName := ⟨RX0, "shortest", "(I)V"⟩
def dkwX0_shortest_6 : List UInt8 := [184, 1, 54, 79, 132, 3, 1, 167, 255, 157, 132, 2, 1, 167, 255, 141, 177]
abbrev dktX0_shortest_6 : List UInt8 := dkwX0_shortest_6 ++ []
def dkwX0_shortest_5 : List UInt8 := [25, 4, 180, 1, 21, 46, 42, 180, 0, 94, 25, 4, 180, 1, 24, 46, 25, 4, 180, 0, 238, 96]
abbrev dktX0_shortest_5 : List UInt8 := dkwX0_shortest_5 ++ dktX0_shortest_6
def dkwX0_shortest_4 : List UInt8 := [25, 4, 180, 0, 238, 96, 184, 1, 54, 79, 42, 180, 0, 94, 25, 4, 180, 1, 21, 42, 180, 0, 94]
abbrev dktX0_shortest_4 : List UInt8 := dkwX0_shortest_4 ++ dktX0_shortest_5
def dkwX0_shortest_3 : List UInt8 := [180, 1, 24, 42, 180, 0, 94, 25, 4, 180, 1, 24, 46, 42, 180, 0, 94, 25, 4, 180, 1, 21, 46]
abbrev dktX0_shortest_3 : List UInt8 := dkwX0_shortest_3 ++ dktX0_shortest_4
def dkwX0_shortest_2 : List UInt8 := [182, 0, 186, 162, 0, 97, 42, 180, 0, 31, 29, 182, 0, 196, 58, 4, 42, 180, 0, 94, 25, 4]
abbrev dktX0_shortest_2 : List UInt8 := dkwX0_shortest_2 ++ dktX0_shortest_3
def dkwX0_shortest_1 : List UInt8 := [19, 1, 48, 79, 132, 2, 1, 167, 255, 227, 3, 61, 28, 42, 182, 0, 183, 162, 0, 113, 3, 62, 29, 42]
abbrev dktX0_shortest_1 : List UInt8 := dkwX0_shortest_1 ++ dktX0_shortest_2
def dkwX0_shortest_0 : List UInt8 := [3, 61, 28, 42, 182, 0, 183, 162, 0, 27, 42, 180, 0, 94, 28, 28, 27, 160, 0, 7, 3, 167, 0, 6]
abbrev dktX0_shortest_0 : List UInt8 := dkwX0_shortest_0 ++ dktX0_shortest_1
theorem dksX0_shortest_0 : cX0_shortest.data.toList.drop 0 = dktX0_shortest_0 := by decide +kernel
theorem dksX0_shortest_1 : cX0_shortest.data.toList.drop 24 = dktX0_shortest_1 := dk_seg dksX0_shortest_0 24 rfl rfl
theorem dksX0_shortest_2 : cX0_shortest.data.toList.drop 48 = dktX0_shortest_2 := dk_seg dksX0_shortest_1 24 rfl rfl
theorem dksX0_shortest_3 : cX0_shortest.data.toList.drop 70 = dktX0_shortest_3 := dk_seg dksX0_shortest_2 22 rfl rfl
theorem dksX0_shortest_4 : cX0_shortest.data.toList.drop 93 = dktX0_shortest_4 := dk_seg dksX0_shortest_3 23 rfl rfl
theorem dksX0_shortest_5 : cX0_shortest.data.toList.drop 116 = dktX0_shortest_5 := dk_seg dksX0_shortest_4 23 rfl rfl
theorem dksX0_shortest_6 : cX0_shortest.data.toList.drop 138 = dktX0_shortest_6 := dk_seg dksX0_shortest_5 22 rfl rfl
theorem dX0_shortest_0 : decode cX0_shortest 0 = .ok (.iconst 0, 1) := dk_3 (dk_at dksX0_shortest_0 0 rfl rfl)
theorem dX0_shortest_1 : decode cX0_shortest 1 = .ok (.istore_n 2, 1) := dk_61 (dk_at dksX0_shortest_0 1 rfl rfl)
theorem dX0_shortest_2 : decode cX0_shortest 2 = .ok (.iload_n 2, 1) := dk_28 (dk_at dksX0_shortest_0 2 rfl rfl)
theorem dX0_shortest_3 : decode cX0_shortest 3 = .ok (.aload_n 0, 1) := dk_42 (dk_at dksX0_shortest_0 3 rfl rfl)
theorem dX0_shortest_4 : decode cX0_shortest 4 = .ok (.invokevirtual 183, 3) := dk_182 0 183 (dk_at dksX0_shortest_0 4 rfl rfl)
theorem dX0_shortest_7 : decode cX0_shortest 7 = .ok (.if_icmp .ge 27, 3) := dk_162 0 27 (dk_at dksX0_shortest_0 7 rfl rfl)
theorem dX0_shortest_10 : decode cX0_shortest 10 = .ok (.aload_n 0, 1) := dk_42 (dk_at dksX0_shortest_0 10 rfl rfl)
theorem dX0_shortest_11 : decode cX0_shortest 11 = .ok (.getfield 94, 3) := dk_180 0 94 (dk_at dksX0_shortest_0 11 rfl rfl)
theorem dX0_shortest_14 : decode cX0_shortest 14 = .ok (.iload_n 2, 1) := dk_28 (dk_at dksX0_shortest_0 14 rfl rfl)
theorem dX0_shortest_15 : decode cX0_shortest 15 = .ok (.iload_n 2, 1) := dk_28 (dk_at dksX0_shortest_0 15 rfl rfl)
theorem dX0_shortest_16 : decode cX0_shortest 16 = .ok (.iload_n 1, 1) := dk_27 (dk_at dksX0_shortest_0 16 rfl rfl)
theorem dX0_shortest_17 : decode cX0_shortest 17 = .ok (.if_icmp .ne 7, 3) := dk_160 0 7 (dk_at dksX0_shortest_0 17 rfl rfl)
theorem dX0_shortest_20 : decode cX0_shortest 20 = .ok (.iconst 0, 1) := dk_3 (dk_at dksX0_shortest_0 20 rfl rfl)
theorem dX0_shortest_21 : decode cX0_shortest 21 = .ok (.goto 6, 3) := dk_167 0 6 (dk_at dksX0_shortest_0 21 rfl rfl)
theorem dX0_shortest_24 : decode cX0_shortest 24 = .ok (.ldc_w 304, 3) := dk_19 1 48 (dk_at dksX0_shortest_1 0 rfl rfl)
theorem dX0_shortest_27 : decode cX0_shortest 27 = .ok (.iastore, 1) := dk_79 (dk_at dksX0_shortest_1 3 rfl rfl)
theorem dX0_shortest_28 : decode cX0_shortest 28 = .ok (.iinc 2 1, 3) := dk_132 2 1 (dk_at dksX0_shortest_1 4 rfl rfl)
theorem dX0_shortest_31 : decode cX0_shortest 31 = .ok (.goto (-29), 3) := dk_167 255 227 (dk_at dksX0_shortest_1 7 rfl rfl)
theorem dX0_shortest_34 : decode cX0_shortest 34 = .ok (.iconst 0, 1) := dk_3 (dk_at dksX0_shortest_1 10 rfl rfl)
theorem dX0_shortest_35 : decode cX0_shortest 35 = .ok (.istore_n 2, 1) := dk_61 (dk_at dksX0_shortest_1 11 rfl rfl)
theorem dX0_shortest_36 : decode cX0_shortest 36 = .ok (.iload_n 2, 1) := dk_28 (dk_at dksX0_shortest_1 12 rfl rfl)
theorem dX0_shortest_37 : decode cX0_shortest 37 = .ok (.aload_n 0, 1) := dk_42 (dk_at dksX0_shortest_1 13 rfl rfl)
theorem dX0_shortest_38 : decode cX0_shortest 38 = .ok (.invokevirtual 183, 3) := dk_182 0 183 (dk_at dksX0_shortest_1 14 rfl rfl)
theorem dX0_shortest_41 : decode cX0_shortest 41 = .ok (.if_icmp .ge 113, 3) := dk_162 0 113 (dk_at dksX0_shortest_1 17 rfl rfl)
theorem dX0_shortest_44 : decode cX0_shortest 44 = .ok (.iconst 0, 1) := dk_3 (dk_at dksX0_shortest_1 20 rfl rfl)
theorem dX0_shortest_45 : decode cX0_shortest 45 = .ok (.istore_n 3, 1) := dk_62 (dk_at dksX0_shortest_1 21 rfl rfl)
theorem dX0_shortest_46 : decode cX0_shortest 46 = .ok (.iload_n 3, 1) := dk_29 (dk_at dksX0_shortest_1 22 rfl rfl)
theorem dX0_shortest_47 : decode cX0_shortest 47 = .ok (.aload_n 0, 1) := dk_42 (dk_at dksX0_shortest_1 23 rfl rfl)
theorem dX0_shortest_48 : decode cX0_shortest 48 = .ok (.invokevirtual 186, 3) := dk_182 0 186 (dk_at dksX0_shortest_2 0 rfl rfl)
theorem dX0_shortest_51 : decode cX0_shortest 51 = .ok (.if_icmp .ge 97, 3) := dk_162 0 97 (dk_at dksX0_shortest_2 3 rfl rfl)
theorem dX0_shortest_54 : decode cX0_shortest 54 = .ok (.aload_n 0, 1) := dk_42 (dk_at dksX0_shortest_2 6 rfl rfl)
theorem dX0_shortest_55 : decode cX0_shortest 55 = .ok (.getfield 31, 3) := dk_180 0 31 (dk_at dksX0_shortest_2 7 rfl rfl)
theorem dX0_shortest_58 : decode cX0_shortest 58 = .ok (.iload_n 3, 1) := dk_29 (dk_at dksX0_shortest_2 10 rfl rfl)
theorem dX0_shortest_59 : decode cX0_shortest 59 = .ok (.invokevirtual 196, 3) := dk_182 0 196 (dk_at dksX0_shortest_2 11 rfl rfl)
theorem dX0_shortest_62 : decode cX0_shortest 62 = .ok (.astore 4, 2) := dk_58 4 (dk_at dksX0_shortest_2 14 rfl rfl)
theorem dX0_shortest_64 : decode cX0_shortest 64 = .ok (.aload_n 0, 1) := dk_42 (dk_at dksX0_shortest_2 16 rfl rfl)
theorem dX0_shortest_65 : decode cX0_shortest 65 = .ok (.getfield 94, 3) := dk_180 0 94 (dk_at dksX0_shortest_2 17 rfl rfl)
theorem dX0_shortest_68 : decode cX0_shortest 68 = .ok (.aload 4, 2) := dk_25 4 (dk_at dksX0_shortest_2 20 rfl rfl)
theorem dX0_shortest_70 : decode cX0_shortest 70 = .ok (.getfield 280, 3) := dk_180 1 24 (dk_at dksX0_shortest_3 0 rfl rfl)
theorem dX0_shortest_73 : decode cX0_shortest 73 = .ok (.aload_n 0, 1) := dk_42 (dk_at dksX0_shortest_3 3 rfl rfl)
theorem dX0_shortest_74 : decode cX0_shortest 74 = .ok (.getfield 94, 3) := dk_180 0 94 (dk_at dksX0_shortest_3 4 rfl rfl)
theorem dX0_shortest_77 : decode cX0_shortest 77 = .ok (.aload 4, 2) := dk_25 4 (dk_at dksX0_shortest_3 7 rfl rfl)
theorem dX0_shortest_79 : decode cX0_shortest 79 = .ok (.getfield 280, 3) := dk_180 1 24 (dk_at dksX0_shortest_3 9 rfl rfl)
theorem dX0_shortest_82 : decode cX0_shortest 82 = .ok (.iaload, 1) := dk_46 (dk_at dksX0_shortest_3 12 rfl rfl)
theorem dX0_shortest_83 : decode cX0_shortest 83 = .ok (.aload_n 0, 1) := dk_42 (dk_at dksX0_shortest_3 13 rfl rfl)
theorem dX0_shortest_84 : decode cX0_shortest 84 = .ok (.getfield 94, 3) := dk_180 0 94 (dk_at dksX0_shortest_3 14 rfl rfl)
theorem dX0_shortest_87 : decode cX0_shortest 87 = .ok (.aload 4, 2) := dk_25 4 (dk_at dksX0_shortest_3 17 rfl rfl)
theorem dX0_shortest_89 : decode cX0_shortest 89 = .ok (.getfield 277, 3) := dk_180 1 21 (dk_at dksX0_shortest_3 19 rfl rfl)
theorem dX0_shortest_92 : decode cX0_shortest 92 = .ok (.iaload, 1) := dk_46 (dk_at dksX0_shortest_3 22 rfl rfl)
theorem dX0_shortest_93 : decode cX0_shortest 93 = .ok (.aload 4, 2) := dk_25 4 (dk_at dksX0_shortest_4 0 rfl rfl)
theorem dX0_shortest_95 : decode cX0_shortest 95 = .ok (.getfield 238, 3) := dk_180 0 238 (dk_at dksX0_shortest_4 2 rfl rfl)
theorem dX0_shortest_98 : decode cX0_shortest 98 = .ok (.iadd, 1) := dk_96 (dk_at dksX0_shortest_4 5 rfl rfl)
theorem dX0_shortest_99 : decode cX0_shortest 99 = .ok (.invokestatic 310, 3) := dk_184 1 54 (dk_at dksX0_shortest_4 6 rfl rfl)
theorem dX0_shortest_102 : decode cX0_shortest 102 = .ok (.iastore, 1) := dk_79 (dk_at dksX0_shortest_4 9 rfl rfl)
theorem dX0_shortest_103 : decode cX0_shortest 103 = .ok (.aload_n 0, 1) := dk_42 (dk_at dksX0_shortest_4 10 rfl rfl)
theorem dX0_shortest_104 : decode cX0_shortest 104 = .ok (.getfield 94, 3) := dk_180 0 94 (dk_at dksX0_shortest_4 11 rfl rfl)
theorem dX0_shortest_107 : decode cX0_shortest 107 = .ok (.aload 4, 2) := dk_25 4 (dk_at dksX0_shortest_4 14 rfl rfl)
theorem dX0_shortest_109 : decode cX0_shortest 109 = .ok (.getfield 277, 3) := dk_180 1 21 (dk_at dksX0_shortest_4 16 rfl rfl)
theorem dX0_shortest_112 : decode cX0_shortest 112 = .ok (.aload_n 0, 1) := dk_42 (dk_at dksX0_shortest_4 19 rfl rfl)
theorem dX0_shortest_113 : decode cX0_shortest 113 = .ok (.getfield 94, 3) := dk_180 0 94 (dk_at dksX0_shortest_4 20 rfl rfl)
theorem dX0_shortest_116 : decode cX0_shortest 116 = .ok (.aload 4, 2) := dk_25 4 (dk_at dksX0_shortest_5 0 rfl rfl)
theorem dX0_shortest_118 : decode cX0_shortest 118 = .ok (.getfield 277, 3) := dk_180 1 21 (dk_at dksX0_shortest_5 2 rfl rfl)
theorem dX0_shortest_121 : decode cX0_shortest 121 = .ok (.iaload, 1) := dk_46 (dk_at dksX0_shortest_5 5 rfl rfl)
theorem dX0_shortest_122 : decode cX0_shortest 122 = .ok (.aload_n 0, 1) := dk_42 (dk_at dksX0_shortest_5 6 rfl rfl)
theorem dX0_shortest_123 : decode cX0_shortest 123 = .ok (.getfield 94, 3) := dk_180 0 94 (dk_at dksX0_shortest_5 7 rfl rfl)
theorem dX0_shortest_126 : decode cX0_shortest 126 = .ok (.aload 4, 2) := dk_25 4 (dk_at dksX0_shortest_5 10 rfl rfl)
theorem dX0_shortest_128 : decode cX0_shortest 128 = .ok (.getfield 280, 3) := dk_180 1 24 (dk_at dksX0_shortest_5 12 rfl rfl)
theorem dX0_shortest_131 : decode cX0_shortest 131 = .ok (.iaload, 1) := dk_46 (dk_at dksX0_shortest_5 15 rfl rfl)
theorem dX0_shortest_132 : decode cX0_shortest 132 = .ok (.aload 4, 2) := dk_25 4 (dk_at dksX0_shortest_5 16 rfl rfl)
theorem dX0_shortest_134 : decode cX0_shortest 134 = .ok (.getfield 238, 3) := dk_180 0 238 (dk_at dksX0_shortest_5 18 rfl rfl)
theorem dX0_shortest_137 : decode cX0_shortest 137 = .ok (.iadd, 1) := dk_96 (dk_at dksX0_shortest_5 21 rfl rfl)
theorem dX0_shortest_138 : decode cX0_shortest 138 = .ok (.invokestatic 310, 3) := dk_184 1 54 (dk_at dksX0_shortest_6 0 rfl rfl)
theorem dX0_shortest_141 : decode cX0_shortest 141 = .ok (.iastore, 1) := dk_79 (dk_at dksX0_shortest_6 3 rfl rfl)
theorem dX0_shortest_142 : decode cX0_shortest 142 = .ok (.iinc 3 1, 3) := dk_132 3 1 (dk_at dksX0_shortest_6 4 rfl rfl)
theorem dX0_shortest_145 : decode cX0_shortest 145 = .ok (.goto (-99), 3) := dk_167 255 157 (dk_at dksX0_shortest_6 7 rfl rfl)
theorem dX0_shortest_148 : decode cX0_shortest 148 = .ok (.iinc 2 1, 3) := dk_132 2 1 (dk_at dksX0_shortest_6 10 rfl rfl)
theorem dX0_shortest_151 : decode cX0_shortest 151 = .ok (.goto (-115), 3) := dk_167 255 141 (dk_at dksX0_shortest_6 13 rfl rfl)
theorem dX0_shortest_154 : decode cX0_shortest 154 = .ok (.return_, 1) := dk_177 (dk_at dksX0_shortest_6 16 rfl rfl)
abbrev cX0_isOn : ByteArray := prog_1_method_47_code
def yX0_isOn : MethodName := ⟨RX0, "isOn", "(II)Z"⟩
def dkwX0_isOn_2 : List UInt8 := [167, 0, 4, 3, 172]
abbrev dktX0_isOn_2 : List UInt8 := dkwX0_isOn_2 ++ []
def dkwX0_isOn_1 : List UInt8 := [42, 180, 0, 31, 27, 182, 0, 196, 180, 0, 238, 96, 42, 180, 0, 94, 28, 46, 160, 0, 7, 4]
abbrev dktX0_isOn_1 : List UInt8 := dkwX0_isOn_1 ++ dktX0_isOn_2
def dkwX0_isOn_0 : List UInt8 := [42, 180, 0, 31, 27, 182, 0, 196, 28, 182, 1, 49, 62, 29, 2, 159, 0, 34, 42, 180, 0, 94, 29, 46]
abbrev dktX0_isOn_0 : List UInt8 := dkwX0_isOn_0 ++ dktX0_isOn_1
theorem dksX0_isOn_0 : cX0_isOn.data.toList.drop 0 = dktX0_isOn_0 := by decide +kernel
theorem dksX0_isOn_1 : cX0_isOn.data.toList.drop 24 = dktX0_isOn_1 := dk_seg dksX0_isOn_0 24 rfl rfl
theorem dksX0_isOn_2 : cX0_isOn.data.toList.drop 46 = dktX0_isOn_2 := dk_seg dksX0_isOn_1 22 rfl rfl
theorem dX0_isOn_0 : decode cX0_isOn 0 = .ok (.aload_n 0, 1) := dk_42 (dk_at dksX0_isOn_0 0 rfl rfl)
theorem dX0_isOn_1 : decode cX0_isOn 1 = .ok (.getfield 31, 3) := dk_180 0 31 (dk_at dksX0_isOn_0 1 rfl rfl)
theorem dX0_isOn_4 : decode cX0_isOn 4 = .ok (.iload_n 1, 1) := dk_27 (dk_at dksX0_isOn_0 4 rfl rfl)
theorem dX0_isOn_5 : decode cX0_isOn 5 = .ok (.invokevirtual 196, 3) := dk_182 0 196 (dk_at dksX0_isOn_0 5 rfl rfl)
theorem dX0_isOn_8 : decode cX0_isOn 8 = .ok (.iload_n 2, 1) := dk_28 (dk_at dksX0_isOn_0 8 rfl rfl)
theorem dX0_isOn_9 : decode cX0_isOn 9 = .ok (.invokevirtual 305, 3) := dk_182 1 49 (dk_at dksX0_isOn_0 9 rfl rfl)
theorem dX0_isOn_12 : decode cX0_isOn 12 = .ok (.istore_n 3, 1) := dk_62 (dk_at dksX0_isOn_0 12 rfl rfl)
theorem dX0_isOn_13 : decode cX0_isOn 13 = .ok (.iload_n 3, 1) := dk_29 (dk_at dksX0_isOn_0 13 rfl rfl)
theorem dX0_isOn_14 : decode cX0_isOn 14 = .ok (.iconst (-1), 1) := dk_2 (dk_at dksX0_isOn_0 14 rfl rfl)
theorem dX0_isOn_15 : decode cX0_isOn 15 = .ok (.if_icmp .eq 34, 3) := dk_159 0 34 (dk_at dksX0_isOn_0 15 rfl rfl)
theorem dX0_isOn_18 : decode cX0_isOn 18 = .ok (.aload_n 0, 1) := dk_42 (dk_at dksX0_isOn_0 18 rfl rfl)
theorem dX0_isOn_19 : decode cX0_isOn 19 = .ok (.getfield 94, 3) := dk_180 0 94 (dk_at dksX0_isOn_0 19 rfl rfl)
theorem dX0_isOn_22 : decode cX0_isOn 22 = .ok (.iload_n 3, 1) := dk_29 (dk_at dksX0_isOn_0 22 rfl rfl)
theorem dX0_isOn_23 : decode cX0_isOn 23 = .ok (.iaload, 1) := dk_46 (dk_at dksX0_isOn_0 23 rfl rfl)
theorem dX0_isOn_24 : decode cX0_isOn 24 = .ok (.aload_n 0, 1) := dk_42 (dk_at dksX0_isOn_1 0 rfl rfl)
theorem dX0_isOn_25 : decode cX0_isOn 25 = .ok (.getfield 31, 3) := dk_180 0 31 (dk_at dksX0_isOn_1 1 rfl rfl)
theorem dX0_isOn_28 : decode cX0_isOn 28 = .ok (.iload_n 1, 1) := dk_27 (dk_at dksX0_isOn_1 4 rfl rfl)
theorem dX0_isOn_29 : decode cX0_isOn 29 = .ok (.invokevirtual 196, 3) := dk_182 0 196 (dk_at dksX0_isOn_1 5 rfl rfl)
theorem dX0_isOn_32 : decode cX0_isOn 32 = .ok (.getfield 238, 3) := dk_180 0 238 (dk_at dksX0_isOn_1 8 rfl rfl)
theorem dX0_isOn_35 : decode cX0_isOn 35 = .ok (.iadd, 1) := dk_96 (dk_at dksX0_isOn_1 11 rfl rfl)
theorem dX0_isOn_36 : decode cX0_isOn 36 = .ok (.aload_n 0, 1) := dk_42 (dk_at dksX0_isOn_1 12 rfl rfl)
theorem dX0_isOn_37 : decode cX0_isOn 37 = .ok (.getfield 94, 3) := dk_180 0 94 (dk_at dksX0_isOn_1 13 rfl rfl)
theorem dX0_isOn_40 : decode cX0_isOn 40 = .ok (.iload_n 2, 1) := dk_28 (dk_at dksX0_isOn_1 16 rfl rfl)
theorem dX0_isOn_41 : decode cX0_isOn 41 = .ok (.iaload, 1) := dk_46 (dk_at dksX0_isOn_1 17 rfl rfl)
theorem dX0_isOn_42 : decode cX0_isOn 42 = .ok (.if_icmp .ne 7, 3) := dk_160 0 7 (dk_at dksX0_isOn_1 18 rfl rfl)
theorem dX0_isOn_45 : decode cX0_isOn 45 = .ok (.iconst 1, 1) := dk_4 (dk_at dksX0_isOn_1 21 rfl rfl)
theorem dX0_isOn_46 : decode cX0_isOn 46 = .ok (.goto 4, 3) := dk_167 0 4 (dk_at dksX0_isOn_2 0 rfl rfl)
theorem dX0_isOn_49 : decode cX0_isOn 49 = .ok (.iconst 0, 1) := dk_3 (dk_at dksX0_isOn_2 3 rfl rfl)
theorem dX0_isOn_50 : decode cX0_isOn 50 = .ok (.ireturn, 1) := dk_172 (dk_at dksX0_isOn_2 4 rfl rfl)
abbrev cX0_narrowIn : ByteArray := prog_1_method_48_code
def yX0_narrowIn : MethodName := ⟨RX0, "narrowIn", "(III)I"⟩
def dkwX0_narrowIn_1 : List UInt8 := [21, 4, 182, 0, 231, 28, 162, 0, 6, 21, 4, 172, 132, 4, 1, 167, 255, 221, 2, 172]
abbrev dktX0_narrowIn_1 : List UInt8 := dkwX0_narrowIn_1 ++ []
def dkwX0_narrowIn_0 : List UInt8 := [29, 54, 4, 21, 4, 29, 42, 180, 0, 31, 27, 182, 0, 196, 180, 0, 238, 96, 162, 0, 23, 42, 27]
abbrev dktX0_narrowIn_0 : List UInt8 := dkwX0_narrowIn_0 ++ dktX0_narrowIn_1
theorem dksX0_narrowIn_0 : cX0_narrowIn.data.toList.drop 0 = dktX0_narrowIn_0 := by decide +kernel
theorem dksX0_narrowIn_1 : cX0_narrowIn.data.toList.drop 23 = dktX0_narrowIn_1 := dk_seg dksX0_narrowIn_0 23 rfl rfl
theorem dX0_narrowIn_0 : decode cX0_narrowIn 0 = .ok (.iload_n 3, 1) := dk_29 (dk_at dksX0_narrowIn_0 0 rfl rfl)
theorem dX0_narrowIn_1 : decode cX0_narrowIn 1 = .ok (.istore 4, 2) := dk_54 4 (dk_at dksX0_narrowIn_0 1 rfl rfl)
theorem dX0_narrowIn_3 : decode cX0_narrowIn 3 = .ok (.iload 4, 2) := dk_21 4 (dk_at dksX0_narrowIn_0 3 rfl rfl)
theorem dX0_narrowIn_5 : decode cX0_narrowIn 5 = .ok (.iload_n 3, 1) := dk_29 (dk_at dksX0_narrowIn_0 5 rfl rfl)
theorem dX0_narrowIn_6 : decode cX0_narrowIn 6 = .ok (.aload_n 0, 1) := dk_42 (dk_at dksX0_narrowIn_0 6 rfl rfl)
theorem dX0_narrowIn_7 : decode cX0_narrowIn 7 = .ok (.getfield 31, 3) := dk_180 0 31 (dk_at dksX0_narrowIn_0 7 rfl rfl)
theorem dX0_narrowIn_10 : decode cX0_narrowIn 10 = .ok (.iload_n 1, 1) := dk_27 (dk_at dksX0_narrowIn_0 10 rfl rfl)
theorem dX0_narrowIn_11 : decode cX0_narrowIn 11 = .ok (.invokevirtual 196, 3) := dk_182 0 196 (dk_at dksX0_narrowIn_0 11 rfl rfl)
theorem dX0_narrowIn_14 : decode cX0_narrowIn 14 = .ok (.getfield 238, 3) := dk_180 0 238 (dk_at dksX0_narrowIn_0 14 rfl rfl)
theorem dX0_narrowIn_17 : decode cX0_narrowIn 17 = .ok (.iadd, 1) := dk_96 (dk_at dksX0_narrowIn_0 17 rfl rfl)
theorem dX0_narrowIn_18 : decode cX0_narrowIn 18 = .ok (.if_icmp .ge 23, 3) := dk_162 0 23 (dk_at dksX0_narrowIn_0 18 rfl rfl)
theorem dX0_narrowIn_21 : decode cX0_narrowIn 21 = .ok (.aload_n 0, 1) := dk_42 (dk_at dksX0_narrowIn_0 21 rfl rfl)
theorem dX0_narrowIn_22 : decode cX0_narrowIn 22 = .ok (.iload_n 1, 1) := dk_27 (dk_at dksX0_narrowIn_0 22 rfl rfl)
theorem dX0_narrowIn_23 : decode cX0_narrowIn 23 = .ok (.iload 4, 2) := dk_21 4 (dk_at dksX0_narrowIn_1 0 rfl rfl)
theorem dX0_narrowIn_25 : decode cX0_narrowIn 25 = .ok (.invokevirtual 231, 3) := dk_182 0 231 (dk_at dksX0_narrowIn_1 2 rfl rfl)
theorem dX0_narrowIn_28 : decode cX0_narrowIn 28 = .ok (.iload_n 2, 1) := dk_28 (dk_at dksX0_narrowIn_1 5 rfl rfl)
theorem dX0_narrowIn_29 : decode cX0_narrowIn 29 = .ok (.if_icmp .ge 6, 3) := dk_162 0 6 (dk_at dksX0_narrowIn_1 6 rfl rfl)
theorem dX0_narrowIn_32 : decode cX0_narrowIn 32 = .ok (.iload 4, 2) := dk_21 4 (dk_at dksX0_narrowIn_1 9 rfl rfl)
theorem dX0_narrowIn_34 : decode cX0_narrowIn 34 = .ok (.ireturn, 1) := dk_172 (dk_at dksX0_narrowIn_1 11 rfl rfl)
theorem dX0_narrowIn_35 : decode cX0_narrowIn 35 = .ok (.iinc 4 1, 3) := dk_132 4 1 (dk_at dksX0_narrowIn_1 12 rfl rfl)
theorem dX0_narrowIn_38 : decode cX0_narrowIn 38 = .ok (.goto (-35), 3) := dk_167 255 221 (dk_at dksX0_narrowIn_1 15 rfl rfl)
theorem dX0_narrowIn_41 : decode cX0_narrowIn 41 = .ok (.iconst (-1), 1) := dk_2 (dk_at dksX0_narrowIn_1 18 rfl rfl)
theorem dX0_narrowIn_42 : decode cX0_narrowIn 42 = .ok (.ireturn, 1) := dk_172 (dk_at dksX0_narrowIn_1 19 rfl rfl)
abbrev cX0_needed : ByteArray := prog_1_method_49_code
def yX0_needed : MethodName := ⟨RX0, "needed", "(I)I"⟩
def dkwX0_needed_2 : List UInt8 := [4, 29, 120, 128, 61, 132, 3, 1, 167, 255, 222, 42, 2, 181, 0, 78, 28, 172]
abbrev dktX0_needed_2 : List UInt8 := dkwX0_needed_2 ++ []
def dkwX0_needed_1 : List UInt8 := [182, 0, 186, 162, 0, 32, 42, 29, 181, 0, 78, 28, 42, 27, 182, 1, 73, 153, 0, 7, 3, 167, 0, 6]
abbrev dktX0_needed_1 : List UInt8 := dkwX0_needed_1 ++ dktX0_needed_2
def dkwX0_needed_0 : List UInt8 := [42, 27, 182, 1, 27, 153, 0, 11, 42, 27, 182, 1, 73, 154, 0, 5, 2, 172, 3, 61, 3, 62, 29, 42]
abbrev dktX0_needed_0 : List UInt8 := dkwX0_needed_0 ++ dktX0_needed_1
theorem dksX0_needed_0 : cX0_needed.data.toList.drop 0 = dktX0_needed_0 := by decide +kernel
theorem dksX0_needed_1 : cX0_needed.data.toList.drop 24 = dktX0_needed_1 := dk_seg dksX0_needed_0 24 rfl rfl
theorem dksX0_needed_2 : cX0_needed.data.toList.drop 48 = dktX0_needed_2 := dk_seg dksX0_needed_1 24 rfl rfl
theorem dX0_needed_0 : decode cX0_needed 0 = .ok (.aload_n 0, 1) := dk_42 (dk_at dksX0_needed_0 0 rfl rfl)
theorem dX0_needed_1 : decode cX0_needed 1 = .ok (.iload_n 1, 1) := dk_27 (dk_at dksX0_needed_0 1 rfl rfl)
theorem dX0_needed_2 : decode cX0_needed 2 = .ok (.invokevirtual 283, 3) := dk_182 1 27 (dk_at dksX0_needed_0 2 rfl rfl)
theorem dX0_needed_5 : decode cX0_needed 5 = .ok (.ifCond .eq 11, 3) := dk_153 0 11 (dk_at dksX0_needed_0 5 rfl rfl)
theorem dX0_needed_8 : decode cX0_needed 8 = .ok (.aload_n 0, 1) := dk_42 (dk_at dksX0_needed_0 8 rfl rfl)
theorem dX0_needed_9 : decode cX0_needed 9 = .ok (.iload_n 1, 1) := dk_27 (dk_at dksX0_needed_0 9 rfl rfl)
theorem dX0_needed_10 : decode cX0_needed 10 = .ok (.invokevirtual 329, 3) := dk_182 1 73 (dk_at dksX0_needed_0 10 rfl rfl)
theorem dX0_needed_13 : decode cX0_needed 13 = .ok (.ifCond .ne 5, 3) := dk_154 0 5 (dk_at dksX0_needed_0 13 rfl rfl)
theorem dX0_needed_16 : decode cX0_needed 16 = .ok (.iconst (-1), 1) := dk_2 (dk_at dksX0_needed_0 16 rfl rfl)
theorem dX0_needed_17 : decode cX0_needed 17 = .ok (.ireturn, 1) := dk_172 (dk_at dksX0_needed_0 17 rfl rfl)
theorem dX0_needed_18 : decode cX0_needed 18 = .ok (.iconst 0, 1) := dk_3 (dk_at dksX0_needed_0 18 rfl rfl)
theorem dX0_needed_19 : decode cX0_needed 19 = .ok (.istore_n 2, 1) := dk_61 (dk_at dksX0_needed_0 19 rfl rfl)
theorem dX0_needed_20 : decode cX0_needed 20 = .ok (.iconst 0, 1) := dk_3 (dk_at dksX0_needed_0 20 rfl rfl)
theorem dX0_needed_21 : decode cX0_needed 21 = .ok (.istore_n 3, 1) := dk_62 (dk_at dksX0_needed_0 21 rfl rfl)
theorem dX0_needed_22 : decode cX0_needed 22 = .ok (.iload_n 3, 1) := dk_29 (dk_at dksX0_needed_0 22 rfl rfl)
theorem dX0_needed_23 : decode cX0_needed 23 = .ok (.aload_n 0, 1) := dk_42 (dk_at dksX0_needed_0 23 rfl rfl)
theorem dX0_needed_24 : decode cX0_needed 24 = .ok (.invokevirtual 186, 3) := dk_182 0 186 (dk_at dksX0_needed_1 0 rfl rfl)
theorem dX0_needed_27 : decode cX0_needed 27 = .ok (.if_icmp .ge 32, 3) := dk_162 0 32 (dk_at dksX0_needed_1 3 rfl rfl)
theorem dX0_needed_30 : decode cX0_needed 30 = .ok (.aload_n 0, 1) := dk_42 (dk_at dksX0_needed_1 6 rfl rfl)
theorem dX0_needed_31 : decode cX0_needed 31 = .ok (.iload_n 3, 1) := dk_29 (dk_at dksX0_needed_1 7 rfl rfl)
theorem dX0_needed_32 : decode cX0_needed 32 = .ok (.putfield 78, 3) := dk_181 0 78 (dk_at dksX0_needed_1 8 rfl rfl)
theorem dX0_needed_35 : decode cX0_needed 35 = .ok (.iload_n 2, 1) := dk_28 (dk_at dksX0_needed_1 11 rfl rfl)
theorem dX0_needed_36 : decode cX0_needed 36 = .ok (.aload_n 0, 1) := dk_42 (dk_at dksX0_needed_1 12 rfl rfl)
theorem dX0_needed_37 : decode cX0_needed 37 = .ok (.iload_n 1, 1) := dk_27 (dk_at dksX0_needed_1 13 rfl rfl)
theorem dX0_needed_38 : decode cX0_needed 38 = .ok (.invokevirtual 329, 3) := dk_182 1 73 (dk_at dksX0_needed_1 14 rfl rfl)
theorem dX0_needed_41 : decode cX0_needed 41 = .ok (.ifCond .eq 7, 3) := dk_153 0 7 (dk_at dksX0_needed_1 17 rfl rfl)
theorem dX0_needed_44 : decode cX0_needed 44 = .ok (.iconst 0, 1) := dk_3 (dk_at dksX0_needed_1 20 rfl rfl)
theorem dX0_needed_45 : decode cX0_needed 45 = .ok (.goto 6, 3) := dk_167 0 6 (dk_at dksX0_needed_1 21 rfl rfl)
theorem dX0_needed_48 : decode cX0_needed 48 = .ok (.iconst 1, 1) := dk_4 (dk_at dksX0_needed_2 0 rfl rfl)
theorem dX0_needed_49 : decode cX0_needed 49 = .ok (.iload_n 3, 1) := dk_29 (dk_at dksX0_needed_2 1 rfl rfl)
theorem dX0_needed_50 : decode cX0_needed 50 = .ok (.ishl, 1) := dk_120 (dk_at dksX0_needed_2 2 rfl rfl)
theorem dX0_needed_51 : decode cX0_needed 51 = .ok (.ior, 1) := dk_128 (dk_at dksX0_needed_2 3 rfl rfl)
theorem dX0_needed_52 : decode cX0_needed 52 = .ok (.istore_n 2, 1) := dk_61 (dk_at dksX0_needed_2 4 rfl rfl)
theorem dX0_needed_53 : decode cX0_needed 53 = .ok (.iinc 3 1, 3) := dk_132 3 1 (dk_at dksX0_needed_2 5 rfl rfl)
theorem dX0_needed_56 : decode cX0_needed 56 = .ok (.goto (-34), 3) := dk_167 255 222 (dk_at dksX0_needed_2 8 rfl rfl)
theorem dX0_needed_59 : decode cX0_needed 59 = .ok (.aload_n 0, 1) := dk_42 (dk_at dksX0_needed_2 11 rfl rfl)
theorem dX0_needed_60 : decode cX0_needed 60 = .ok (.iconst (-1), 1) := dk_2 (dk_at dksX0_needed_2 12 rfl rfl)
theorem dX0_needed_61 : decode cX0_needed 61 = .ok (.putfield 78, 3) := dk_181 0 78 (dk_at dksX0_needed_2 13 rfl rfl)
theorem dX0_needed_64 : decode cX0_needed 64 = .ok (.iload_n 2, 1) := dk_28 (dk_at dksX0_needed_2 16 rfl rfl)
theorem dX0_needed_65 : decode cX0_needed 65 = .ok (.ireturn, 1) := dk_172 (dk_at dksX0_needed_2 17 rfl rfl)
abbrev cX0_parade : ByteArray := prog_1_method_51_code
def yX0_parade : MethodName := ⟨RX0, "parade", "(II)I"⟩
def dkwX0_parade_3 : List UInt8 := [29, 172, 132, 3, 1, 167, 255, 216, 2, 172]
abbrev dktX0_parade_3 : List UInt8 := dkwX0_parade_3 ++ []
def dkwX0_parade_2 : List UInt8 := [96, 163, 0, 31, 42, 42, 180, 0, 31, 27, 182, 1, 30, 180, 1, 34, 28, 29, 182, 1, 87, 153, 0, 5]
abbrev dktX0_parade_2 : List UInt8 := dkwX0_parade_2 ++ dktX0_parade_3
def dkwX0_parade_1 : List UInt8 := [154, 0, 5, 2, 172, 42, 180, 0, 69, 180, 1, 3, 62, 29, 42, 180, 0, 69, 180, 1, 3, 17, 1, 144]
abbrev dktX0_parade_1 : List UInt8 := dkwX0_parade_1 ++ dktX0_parade_2
def dkwX0_parade_0 : List UInt8 := [42, 27, 182, 1, 27, 153, 0, 21, 28, 3, 16, 48, 184, 0, 192, 153, 0, 11, 42, 27, 182, 1, 73]
abbrev dktX0_parade_0 : List UInt8 := dkwX0_parade_0 ++ dktX0_parade_1
theorem dksX0_parade_0 : cX0_parade.data.toList.drop 0 = dktX0_parade_0 := by decide +kernel
theorem dksX0_parade_1 : cX0_parade.data.toList.drop 23 = dktX0_parade_1 := dk_seg dksX0_parade_0 23 rfl rfl
theorem dksX0_parade_2 : cX0_parade.data.toList.drop 47 = dktX0_parade_2 := dk_seg dksX0_parade_1 24 rfl rfl
theorem dksX0_parade_3 : cX0_parade.data.toList.drop 71 = dktX0_parade_3 := dk_seg dksX0_parade_2 24 rfl rfl
theorem dX0_parade_0 : decode cX0_parade 0 = .ok (.aload_n 0, 1) := dk_42 (dk_at dksX0_parade_0 0 rfl rfl)
theorem dX0_parade_1 : decode cX0_parade 1 = .ok (.iload_n 1, 1) := dk_27 (dk_at dksX0_parade_0 1 rfl rfl)
theorem dX0_parade_2 : decode cX0_parade 2 = .ok (.invokevirtual 283, 3) := dk_182 1 27 (dk_at dksX0_parade_0 2 rfl rfl)
theorem dX0_parade_5 : decode cX0_parade 5 = .ok (.ifCond .eq 21, 3) := dk_153 0 21 (dk_at dksX0_parade_0 5 rfl rfl)
theorem dX0_parade_8 : decode cX0_parade 8 = .ok (.iload_n 2, 1) := dk_28 (dk_at dksX0_parade_0 8 rfl rfl)
theorem dX0_parade_9 : decode cX0_parade 9 = .ok (.iconst 0, 1) := dk_3 (dk_at dksX0_parade_0 9 rfl rfl)
theorem dX0_parade_10 : decode cX0_parade 10 = .ok (.bipush 48, 2) := dk_16 48 (dk_at dksX0_parade_0 10 rfl rfl)
theorem dX0_parade_12 : decode cX0_parade 12 = .ok (.invokestatic 192, 3) := dk_184 0 192 (dk_at dksX0_parade_0 12 rfl rfl)
theorem dX0_parade_15 : decode cX0_parade 15 = .ok (.ifCond .eq 11, 3) := dk_153 0 11 (dk_at dksX0_parade_0 15 rfl rfl)
theorem dX0_parade_18 : decode cX0_parade 18 = .ok (.aload_n 0, 1) := dk_42 (dk_at dksX0_parade_0 18 rfl rfl)
theorem dX0_parade_19 : decode cX0_parade 19 = .ok (.iload_n 1, 1) := dk_27 (dk_at dksX0_parade_0 19 rfl rfl)
theorem dX0_parade_20 : decode cX0_parade 20 = .ok (.invokevirtual 329, 3) := dk_182 1 73 (dk_at dksX0_parade_0 20 rfl rfl)
theorem dX0_parade_23 : decode cX0_parade 23 = .ok (.ifCond .ne 5, 3) := dk_154 0 5 (dk_at dksX0_parade_1 0 rfl rfl)
theorem dX0_parade_26 : decode cX0_parade 26 = .ok (.iconst (-1), 1) := dk_2 (dk_at dksX0_parade_1 3 rfl rfl)
theorem dX0_parade_27 : decode cX0_parade 27 = .ok (.ireturn, 1) := dk_172 (dk_at dksX0_parade_1 4 rfl rfl)
theorem dX0_parade_28 : decode cX0_parade 28 = .ok (.aload_n 0, 1) := dk_42 (dk_at dksX0_parade_1 5 rfl rfl)
theorem dX0_parade_29 : decode cX0_parade 29 = .ok (.getfield 69, 3) := dk_180 0 69 (dk_at dksX0_parade_1 6 rfl rfl)
theorem dX0_parade_32 : decode cX0_parade 32 = .ok (.getfield 259, 3) := dk_180 1 3 (dk_at dksX0_parade_1 9 rfl rfl)
theorem dX0_parade_35 : decode cX0_parade 35 = .ok (.istore_n 3, 1) := dk_62 (dk_at dksX0_parade_1 12 rfl rfl)
theorem dX0_parade_36 : decode cX0_parade 36 = .ok (.iload_n 3, 1) := dk_29 (dk_at dksX0_parade_1 13 rfl rfl)
theorem dX0_parade_37 : decode cX0_parade 37 = .ok (.aload_n 0, 1) := dk_42 (dk_at dksX0_parade_1 14 rfl rfl)
theorem dX0_parade_38 : decode cX0_parade 38 = .ok (.getfield 69, 3) := dk_180 0 69 (dk_at dksX0_parade_1 15 rfl rfl)
theorem dX0_parade_41 : decode cX0_parade 41 = .ok (.getfield 259, 3) := dk_180 1 3 (dk_at dksX0_parade_1 18 rfl rfl)
theorem dX0_parade_44 : decode cX0_parade 44 = .ok (.sipush 400, 3) := dk_17 1 144 (dk_at dksX0_parade_1 21 rfl rfl)
theorem dX0_parade_47 : decode cX0_parade 47 = .ok (.iadd, 1) := dk_96 (dk_at dksX0_parade_2 0 rfl rfl)
theorem dX0_parade_48 : decode cX0_parade 48 = .ok (.if_icmp .gt 31, 3) := dk_163 0 31 (dk_at dksX0_parade_2 1 rfl rfl)
theorem dX0_parade_51 : decode cX0_parade 51 = .ok (.aload_n 0, 1) := dk_42 (dk_at dksX0_parade_2 4 rfl rfl)
theorem dX0_parade_52 : decode cX0_parade 52 = .ok (.aload_n 0, 1) := dk_42 (dk_at dksX0_parade_2 5 rfl rfl)
theorem dX0_parade_53 : decode cX0_parade 53 = .ok (.getfield 31, 3) := dk_180 0 31 (dk_at dksX0_parade_2 6 rfl rfl)
theorem dX0_parade_56 : decode cX0_parade 56 = .ok (.iload_n 1, 1) := dk_27 (dk_at dksX0_parade_2 9 rfl rfl)
theorem dX0_parade_57 : decode cX0_parade 57 = .ok (.invokevirtual 286, 3) := dk_182 1 30 (dk_at dksX0_parade_2 10 rfl rfl)
theorem dX0_parade_60 : decode cX0_parade 60 = .ok (.getfield 290, 3) := dk_180 1 34 (dk_at dksX0_parade_2 13 rfl rfl)
theorem dX0_parade_63 : decode cX0_parade 63 = .ok (.iload_n 2, 1) := dk_28 (dk_at dksX0_parade_2 16 rfl rfl)
theorem dX0_parade_64 : decode cX0_parade 64 = .ok (.iload_n 3, 1) := dk_29 (dk_at dksX0_parade_2 17 rfl rfl)
theorem dX0_parade_65 : decode cX0_parade 65 = .ok (.invokevirtual 343, 3) := dk_182 1 87 (dk_at dksX0_parade_2 18 rfl rfl)
theorem dX0_parade_68 : decode cX0_parade 68 = .ok (.ifCond .eq 5, 3) := dk_153 0 5 (dk_at dksX0_parade_2 21 rfl rfl)
theorem dX0_parade_71 : decode cX0_parade 71 = .ok (.iload_n 3, 1) := dk_29 (dk_at dksX0_parade_3 0 rfl rfl)
theorem dX0_parade_72 : decode cX0_parade 72 = .ok (.ireturn, 1) := dk_172 (dk_at dksX0_parade_3 1 rfl rfl)
theorem dX0_parade_73 : decode cX0_parade 73 = .ok (.iinc 3 1, 3) := dk_132 3 1 (dk_at dksX0_parade_3 2 rfl rfl)
theorem dX0_parade_76 : decode cX0_parade 76 = .ok (.goto (-40), 3) := dk_167 255 216 (dk_at dksX0_parade_3 5 rfl rfl)
theorem dX0_parade_79 : decode cX0_parade 79 = .ok (.iconst (-1), 1) := dk_2 (dk_at dksX0_parade_3 8 rfl rfl)
theorem dX0_parade_80 : decode cX0_parade 80 = .ok (.ireturn, 1) := dk_172 (dk_at dksX0_parade_3 9 rfl rfl)
abbrev cX0_isThrough : ByteArray := prog_1_method_50_code
def yX0_isThrough : MethodName := ⟨RX0, "isThrough", "(III)Z"⟩
def dkwX0_isThrough_3 : List UInt8 := [167, 255, 219, 21, 4, 25, 6, 180, 0, 238, 96, 54, 4, 132, 5, 255, 167, 255, 179, 4, 172]
abbrev dktX0_isThrough_3 : List UInt8 := dkwX0_isThrough_3 ++ []
def dkwX0_isThrough_2 : List UInt8 := [42, 180, 0, 88, 21, 5, 46, 21, 4, 21, 7, 96, 182, 0, 231, 27, 162, 0, 5, 3, 172, 132, 7, 1]
abbrev dktX0_isThrough_2 : List UInt8 := dkwX0_isThrough_2 ++ dktX0_isThrough_3
def dkwX0_isThrough_1 : List UInt8 := [21, 5, 46, 182, 0, 196, 58, 6, 3, 54, 7, 21, 7, 25, 6, 180, 0, 238, 28, 96, 162, 0, 31, 42]
abbrev dktX0_isThrough_1 : List UInt8 := dkwX0_isThrough_1 ++ dktX0_isThrough_2
def dkwX0_isThrough_0 : List UInt8 := [29, 54, 4, 42, 180, 1, 60, 4, 100, 54, 5, 21, 5, 155, 0, 78, 42, 180, 0, 31, 42, 180, 0, 88]
abbrev dktX0_isThrough_0 : List UInt8 := dkwX0_isThrough_0 ++ dktX0_isThrough_1
theorem dksX0_isThrough_0 : cX0_isThrough.data.toList.drop 0 = dktX0_isThrough_0 := by decide +kernel
theorem dksX0_isThrough_1 : cX0_isThrough.data.toList.drop 24 = dktX0_isThrough_1 := dk_seg dksX0_isThrough_0 24 rfl rfl
theorem dksX0_isThrough_2 : cX0_isThrough.data.toList.drop 48 = dktX0_isThrough_2 := dk_seg dksX0_isThrough_1 24 rfl rfl
theorem dksX0_isThrough_3 : cX0_isThrough.data.toList.drop 72 = dktX0_isThrough_3 := dk_seg dksX0_isThrough_2 24 rfl rfl
theorem dX0_isThrough_0 : decode cX0_isThrough 0 = .ok (.iload_n 3, 1) := dk_29 (dk_at dksX0_isThrough_0 0 rfl rfl)
theorem dX0_isThrough_1 : decode cX0_isThrough 1 = .ok (.istore 4, 2) := dk_54 4 (dk_at dksX0_isThrough_0 1 rfl rfl)
theorem dX0_isThrough_3 : decode cX0_isThrough 3 = .ok (.aload_n 0, 1) := dk_42 (dk_at dksX0_isThrough_0 3 rfl rfl)
theorem dX0_isThrough_4 : decode cX0_isThrough 4 = .ok (.getfield 316, 3) := dk_180 1 60 (dk_at dksX0_isThrough_0 4 rfl rfl)
theorem dX0_isThrough_7 : decode cX0_isThrough 7 = .ok (.iconst 1, 1) := dk_4 (dk_at dksX0_isThrough_0 7 rfl rfl)
theorem dX0_isThrough_8 : decode cX0_isThrough 8 = .ok (.isub, 1) := dk_100 (dk_at dksX0_isThrough_0 8 rfl rfl)
theorem dX0_isThrough_9 : decode cX0_isThrough 9 = .ok (.istore 5, 2) := dk_54 5 (dk_at dksX0_isThrough_0 9 rfl rfl)
theorem dX0_isThrough_11 : decode cX0_isThrough 11 = .ok (.iload 5, 2) := dk_21 5 (dk_at dksX0_isThrough_0 11 rfl rfl)
theorem dX0_isThrough_13 : decode cX0_isThrough 13 = .ok (.ifCond .lt 78, 3) := dk_155 0 78 (dk_at dksX0_isThrough_0 13 rfl rfl)
theorem dX0_isThrough_16 : decode cX0_isThrough 16 = .ok (.aload_n 0, 1) := dk_42 (dk_at dksX0_isThrough_0 16 rfl rfl)
theorem dX0_isThrough_17 : decode cX0_isThrough 17 = .ok (.getfield 31, 3) := dk_180 0 31 (dk_at dksX0_isThrough_0 17 rfl rfl)
theorem dX0_isThrough_20 : decode cX0_isThrough 20 = .ok (.aload_n 0, 1) := dk_42 (dk_at dksX0_isThrough_0 20 rfl rfl)
theorem dX0_isThrough_21 : decode cX0_isThrough 21 = .ok (.getfield 88, 3) := dk_180 0 88 (dk_at dksX0_isThrough_0 21 rfl rfl)
theorem dX0_isThrough_24 : decode cX0_isThrough 24 = .ok (.iload 5, 2) := dk_21 5 (dk_at dksX0_isThrough_1 0 rfl rfl)
theorem dX0_isThrough_26 : decode cX0_isThrough 26 = .ok (.iaload, 1) := dk_46 (dk_at dksX0_isThrough_1 2 rfl rfl)
theorem dX0_isThrough_27 : decode cX0_isThrough 27 = .ok (.invokevirtual 196, 3) := dk_182 0 196 (dk_at dksX0_isThrough_1 3 rfl rfl)
theorem dX0_isThrough_30 : decode cX0_isThrough 30 = .ok (.astore 6, 2) := dk_58 6 (dk_at dksX0_isThrough_1 6 rfl rfl)
theorem dX0_isThrough_32 : decode cX0_isThrough 32 = .ok (.iconst 0, 1) := dk_3 (dk_at dksX0_isThrough_1 8 rfl rfl)
theorem dX0_isThrough_33 : decode cX0_isThrough 33 = .ok (.istore 7, 2) := dk_54 7 (dk_at dksX0_isThrough_1 9 rfl rfl)
theorem dX0_isThrough_35 : decode cX0_isThrough 35 = .ok (.iload 7, 2) := dk_21 7 (dk_at dksX0_isThrough_1 11 rfl rfl)
theorem dX0_isThrough_37 : decode cX0_isThrough 37 = .ok (.aload 6, 2) := dk_25 6 (dk_at dksX0_isThrough_1 13 rfl rfl)
theorem dX0_isThrough_39 : decode cX0_isThrough 39 = .ok (.getfield 238, 3) := dk_180 0 238 (dk_at dksX0_isThrough_1 15 rfl rfl)
theorem dX0_isThrough_42 : decode cX0_isThrough 42 = .ok (.iload_n 2, 1) := dk_28 (dk_at dksX0_isThrough_1 18 rfl rfl)
theorem dX0_isThrough_43 : decode cX0_isThrough 43 = .ok (.iadd, 1) := dk_96 (dk_at dksX0_isThrough_1 19 rfl rfl)
theorem dX0_isThrough_44 : decode cX0_isThrough 44 = .ok (.if_icmp .ge 31, 3) := dk_162 0 31 (dk_at dksX0_isThrough_1 20 rfl rfl)
theorem dX0_isThrough_47 : decode cX0_isThrough 47 = .ok (.aload_n 0, 1) := dk_42 (dk_at dksX0_isThrough_1 23 rfl rfl)
theorem dX0_isThrough_48 : decode cX0_isThrough 48 = .ok (.aload_n 0, 1) := dk_42 (dk_at dksX0_isThrough_2 0 rfl rfl)
theorem dX0_isThrough_49 : decode cX0_isThrough 49 = .ok (.getfield 88, 3) := dk_180 0 88 (dk_at dksX0_isThrough_2 1 rfl rfl)
theorem dX0_isThrough_52 : decode cX0_isThrough 52 = .ok (.iload 5, 2) := dk_21 5 (dk_at dksX0_isThrough_2 4 rfl rfl)
theorem dX0_isThrough_54 : decode cX0_isThrough 54 = .ok (.iaload, 1) := dk_46 (dk_at dksX0_isThrough_2 6 rfl rfl)
theorem dX0_isThrough_55 : decode cX0_isThrough 55 = .ok (.iload 4, 2) := dk_21 4 (dk_at dksX0_isThrough_2 7 rfl rfl)
theorem dX0_isThrough_57 : decode cX0_isThrough 57 = .ok (.iload 7, 2) := dk_21 7 (dk_at dksX0_isThrough_2 9 rfl rfl)
theorem dX0_isThrough_59 : decode cX0_isThrough 59 = .ok (.iadd, 1) := dk_96 (dk_at dksX0_isThrough_2 11 rfl rfl)
theorem dX0_isThrough_60 : decode cX0_isThrough 60 = .ok (.invokevirtual 231, 3) := dk_182 0 231 (dk_at dksX0_isThrough_2 12 rfl rfl)
theorem dX0_isThrough_63 : decode cX0_isThrough 63 = .ok (.iload_n 1, 1) := dk_27 (dk_at dksX0_isThrough_2 15 rfl rfl)
theorem dX0_isThrough_64 : decode cX0_isThrough 64 = .ok (.if_icmp .ge 5, 3) := dk_162 0 5 (dk_at dksX0_isThrough_2 16 rfl rfl)
theorem dX0_isThrough_67 : decode cX0_isThrough 67 = .ok (.iconst 0, 1) := dk_3 (dk_at dksX0_isThrough_2 19 rfl rfl)
theorem dX0_isThrough_68 : decode cX0_isThrough 68 = .ok (.ireturn, 1) := dk_172 (dk_at dksX0_isThrough_2 20 rfl rfl)
theorem dX0_isThrough_69 : decode cX0_isThrough 69 = .ok (.iinc 7 1, 3) := dk_132 7 1 (dk_at dksX0_isThrough_2 21 rfl rfl)
theorem dX0_isThrough_72 : decode cX0_isThrough 72 = .ok (.goto (-37), 3) := dk_167 255 219 (dk_at dksX0_isThrough_3 0 rfl rfl)
theorem dX0_isThrough_75 : decode cX0_isThrough 75 = .ok (.iload 4, 2) := dk_21 4 (dk_at dksX0_isThrough_3 3 rfl rfl)
theorem dX0_isThrough_77 : decode cX0_isThrough 77 = .ok (.aload 6, 2) := dk_25 6 (dk_at dksX0_isThrough_3 5 rfl rfl)
theorem dX0_isThrough_79 : decode cX0_isThrough 79 = .ok (.getfield 238, 3) := dk_180 0 238 (dk_at dksX0_isThrough_3 7 rfl rfl)
theorem dX0_isThrough_82 : decode cX0_isThrough 82 = .ok (.iadd, 1) := dk_96 (dk_at dksX0_isThrough_3 10 rfl rfl)
theorem dX0_isThrough_83 : decode cX0_isThrough 83 = .ok (.istore 4, 2) := dk_54 4 (dk_at dksX0_isThrough_3 11 rfl rfl)
theorem dX0_isThrough_85 : decode cX0_isThrough 85 = .ok (.iinc 5 (-1), 3) := dk_132 5 255 (dk_at dksX0_isThrough_3 13 rfl rfl)
theorem dX0_isThrough_88 : decode cX0_isThrough 88 = .ok (.goto (-77), 3) := dk_167 255 179 (dk_at dksX0_isThrough_3 16 rfl rfl)
theorem dX0_isThrough_91 : decode cX0_isThrough 91 = .ok (.iconst 1, 1) := dk_4 (dk_at dksX0_isThrough_3 19 rfl rfl)
theorem dX0_isThrough_92 : decode cX0_isThrough 92 = .ok (.ireturn, 1) := dk_172 (dk_at dksX0_isThrough_3 20 rfl rfl)
abbrev cX0_rows : ByteArray := prog_1_method_54_code
def yX0_rows : MethodName := ⟨RX0, "rows", "(II)I"⟩
def dkwX0_rows_4 : List UInt8 := [180, 0, 106, 28, 16, 10, 100, 46, 172]
abbrev dktX0_rows_4 : List UInt8 := dkwX0_rows_4 ++ []
def dkwX0_rows_3 : List UInt8 := [42, 180, 1, 93, 167, 0, 27, 28, 16, 10, 162, 0, 12, 42, 180, 0, 103, 28, 46, 167, 0, 12, 42]
abbrev dktX0_rows_3 : List UInt8 := dkwX0_rows_3 ++ dktX0_rows_4
def dkwX0_rows_2 : List UInt8 := [2, 181, 1, 93, 42, 3, 27, 3, 182, 1, 99, 42, 180, 1, 93, 2, 159, 0, 8, 28, 2, 160, 0, 10]
abbrev dktX0_rows_2 : List UInt8 := dkwX0_rows_2 ++ dktX0_rows_3
def dkwX0_rows_1 : List UInt8 := [4, 100, 184, 0, 192, 154, 0, 18, 28, 16, 10, 16, 9, 27, 96, 184, 0, 192, 154, 0, 5, 2, 172, 42]
abbrev dktX0_rows_1 : List UInt8 := dkwX0_rows_1 ++ dktX0_rows_2
def dkwX0_rows_0 : List UInt8 := [27, 4, 7, 42, 182, 0, 189, 184, 1, 54, 184, 0, 192, 153, 0, 32, 28, 2, 159, 0, 29, 28, 3, 27]
abbrev dktX0_rows_0 : List UInt8 := dkwX0_rows_0 ++ dktX0_rows_1
theorem dksX0_rows_0 : cX0_rows.data.toList.drop 0 = dktX0_rows_0 := by decide +kernel
theorem dksX0_rows_1 : cX0_rows.data.toList.drop 24 = dktX0_rows_1 := dk_seg dksX0_rows_0 24 rfl rfl
theorem dksX0_rows_2 : cX0_rows.data.toList.drop 48 = dktX0_rows_2 := dk_seg dksX0_rows_1 24 rfl rfl
theorem dksX0_rows_3 : cX0_rows.data.toList.drop 72 = dktX0_rows_3 := dk_seg dksX0_rows_2 24 rfl rfl
theorem dksX0_rows_4 : cX0_rows.data.toList.drop 95 = dktX0_rows_4 := dk_seg dksX0_rows_3 23 rfl rfl
theorem dX0_rows_0 : decode cX0_rows 0 = .ok (.iload_n 1, 1) := dk_27 (dk_at dksX0_rows_0 0 rfl rfl)
theorem dX0_rows_1 : decode cX0_rows 1 = .ok (.iconst 1, 1) := dk_4 (dk_at dksX0_rows_0 1 rfl rfl)
theorem dX0_rows_2 : decode cX0_rows 2 = .ok (.iconst 4, 1) := dk_7 (dk_at dksX0_rows_0 2 rfl rfl)
theorem dX0_rows_3 : decode cX0_rows 3 = .ok (.aload_n 0, 1) := dk_42 (dk_at dksX0_rows_0 3 rfl rfl)
theorem dX0_rows_4 : decode cX0_rows 4 = .ok (.invokevirtual 189, 3) := dk_182 0 189 (dk_at dksX0_rows_0 4 rfl rfl)
theorem dX0_rows_7 : decode cX0_rows 7 = .ok (.invokestatic 310, 3) := dk_184 1 54 (dk_at dksX0_rows_0 7 rfl rfl)
theorem dX0_rows_10 : decode cX0_rows 10 = .ok (.invokestatic 192, 3) := dk_184 0 192 (dk_at dksX0_rows_0 10 rfl rfl)
theorem dX0_rows_13 : decode cX0_rows 13 = .ok (.ifCond .eq 32, 3) := dk_153 0 32 (dk_at dksX0_rows_0 13 rfl rfl)
theorem dX0_rows_16 : decode cX0_rows 16 = .ok (.iload_n 2, 1) := dk_28 (dk_at dksX0_rows_0 16 rfl rfl)
theorem dX0_rows_17 : decode cX0_rows 17 = .ok (.iconst (-1), 1) := dk_2 (dk_at dksX0_rows_0 17 rfl rfl)
theorem dX0_rows_18 : decode cX0_rows 18 = .ok (.if_icmp .eq 29, 3) := dk_159 0 29 (dk_at dksX0_rows_0 18 rfl rfl)
theorem dX0_rows_21 : decode cX0_rows 21 = .ok (.iload_n 2, 1) := dk_28 (dk_at dksX0_rows_0 21 rfl rfl)
theorem dX0_rows_22 : decode cX0_rows 22 = .ok (.iconst 0, 1) := dk_3 (dk_at dksX0_rows_0 22 rfl rfl)
theorem dX0_rows_23 : decode cX0_rows 23 = .ok (.iload_n 1, 1) := dk_27 (dk_at dksX0_rows_0 23 rfl rfl)
theorem dX0_rows_24 : decode cX0_rows 24 = .ok (.iconst 1, 1) := dk_4 (dk_at dksX0_rows_1 0 rfl rfl)
theorem dX0_rows_25 : decode cX0_rows 25 = .ok (.isub, 1) := dk_100 (dk_at dksX0_rows_1 1 rfl rfl)
theorem dX0_rows_26 : decode cX0_rows 26 = .ok (.invokestatic 192, 3) := dk_184 0 192 (dk_at dksX0_rows_1 2 rfl rfl)
theorem dX0_rows_29 : decode cX0_rows 29 = .ok (.ifCond .ne 18, 3) := dk_154 0 18 (dk_at dksX0_rows_1 5 rfl rfl)
theorem dX0_rows_32 : decode cX0_rows 32 = .ok (.iload_n 2, 1) := dk_28 (dk_at dksX0_rows_1 8 rfl rfl)
theorem dX0_rows_33 : decode cX0_rows 33 = .ok (.bipush 10, 2) := dk_16 10 (dk_at dksX0_rows_1 9 rfl rfl)
theorem dX0_rows_35 : decode cX0_rows 35 = .ok (.bipush 9, 2) := dk_16 9 (dk_at dksX0_rows_1 11 rfl rfl)
theorem dX0_rows_37 : decode cX0_rows 37 = .ok (.iload_n 1, 1) := dk_27 (dk_at dksX0_rows_1 13 rfl rfl)
theorem dX0_rows_38 : decode cX0_rows 38 = .ok (.iadd, 1) := dk_96 (dk_at dksX0_rows_1 14 rfl rfl)
theorem dX0_rows_39 : decode cX0_rows 39 = .ok (.invokestatic 192, 3) := dk_184 0 192 (dk_at dksX0_rows_1 15 rfl rfl)
theorem dX0_rows_42 : decode cX0_rows 42 = .ok (.ifCond .ne 5, 3) := dk_154 0 5 (dk_at dksX0_rows_1 18 rfl rfl)
theorem dX0_rows_45 : decode cX0_rows 45 = .ok (.iconst (-1), 1) := dk_2 (dk_at dksX0_rows_1 21 rfl rfl)
theorem dX0_rows_46 : decode cX0_rows 46 = .ok (.ireturn, 1) := dk_172 (dk_at dksX0_rows_1 22 rfl rfl)
theorem dX0_rows_47 : decode cX0_rows 47 = .ok (.aload_n 0, 1) := dk_42 (dk_at dksX0_rows_1 23 rfl rfl)
theorem dX0_rows_48 : decode cX0_rows 48 = .ok (.iconst (-1), 1) := dk_2 (dk_at dksX0_rows_2 0 rfl rfl)
theorem dX0_rows_49 : decode cX0_rows 49 = .ok (.putfield 349, 3) := dk_181 1 93 (dk_at dksX0_rows_2 1 rfl rfl)
theorem dX0_rows_52 : decode cX0_rows 52 = .ok (.aload_n 0, 1) := dk_42 (dk_at dksX0_rows_2 4 rfl rfl)
theorem dX0_rows_53 : decode cX0_rows 53 = .ok (.iconst 0, 1) := dk_3 (dk_at dksX0_rows_2 5 rfl rfl)
theorem dX0_rows_54 : decode cX0_rows 54 = .ok (.iload_n 1, 1) := dk_27 (dk_at dksX0_rows_2 6 rfl rfl)
theorem dX0_rows_55 : decode cX0_rows 55 = .ok (.iconst 0, 1) := dk_3 (dk_at dksX0_rows_2 7 rfl rfl)
theorem dX0_rows_56 : decode cX0_rows 56 = .ok (.invokevirtual 355, 3) := dk_182 1 99 (dk_at dksX0_rows_2 8 rfl rfl)
theorem dX0_rows_59 : decode cX0_rows 59 = .ok (.aload_n 0, 1) := dk_42 (dk_at dksX0_rows_2 11 rfl rfl)
theorem dX0_rows_60 : decode cX0_rows 60 = .ok (.getfield 349, 3) := dk_180 1 93 (dk_at dksX0_rows_2 12 rfl rfl)
theorem dX0_rows_63 : decode cX0_rows 63 = .ok (.iconst (-1), 1) := dk_2 (dk_at dksX0_rows_2 15 rfl rfl)
theorem dX0_rows_64 : decode cX0_rows 64 = .ok (.if_icmp .eq 8, 3) := dk_159 0 8 (dk_at dksX0_rows_2 16 rfl rfl)
theorem dX0_rows_67 : decode cX0_rows 67 = .ok (.iload_n 2, 1) := dk_28 (dk_at dksX0_rows_2 19 rfl rfl)
theorem dX0_rows_68 : decode cX0_rows 68 = .ok (.iconst (-1), 1) := dk_2 (dk_at dksX0_rows_2 20 rfl rfl)
theorem dX0_rows_69 : decode cX0_rows 69 = .ok (.if_icmp .ne 10, 3) := dk_160 0 10 (dk_at dksX0_rows_2 21 rfl rfl)
theorem dX0_rows_72 : decode cX0_rows 72 = .ok (.aload_n 0, 1) := dk_42 (dk_at dksX0_rows_3 0 rfl rfl)
theorem dX0_rows_73 : decode cX0_rows 73 = .ok (.getfield 349, 3) := dk_180 1 93 (dk_at dksX0_rows_3 1 rfl rfl)
theorem dX0_rows_76 : decode cX0_rows 76 = .ok (.goto 27, 3) := dk_167 0 27 (dk_at dksX0_rows_3 4 rfl rfl)
theorem dX0_rows_79 : decode cX0_rows 79 = .ok (.iload_n 2, 1) := dk_28 (dk_at dksX0_rows_3 7 rfl rfl)
theorem dX0_rows_80 : decode cX0_rows 80 = .ok (.bipush 10, 2) := dk_16 10 (dk_at dksX0_rows_3 8 rfl rfl)
theorem dX0_rows_82 : decode cX0_rows 82 = .ok (.if_icmp .ge 12, 3) := dk_162 0 12 (dk_at dksX0_rows_3 10 rfl rfl)
theorem dX0_rows_85 : decode cX0_rows 85 = .ok (.aload_n 0, 1) := dk_42 (dk_at dksX0_rows_3 13 rfl rfl)
theorem dX0_rows_86 : decode cX0_rows 86 = .ok (.getfield 103, 3) := dk_180 0 103 (dk_at dksX0_rows_3 14 rfl rfl)
theorem dX0_rows_89 : decode cX0_rows 89 = .ok (.iload_n 2, 1) := dk_28 (dk_at dksX0_rows_3 17 rfl rfl)
theorem dX0_rows_90 : decode cX0_rows 90 = .ok (.iaload, 1) := dk_46 (dk_at dksX0_rows_3 18 rfl rfl)
theorem dX0_rows_91 : decode cX0_rows 91 = .ok (.goto 12, 3) := dk_167 0 12 (dk_at dksX0_rows_3 19 rfl rfl)
theorem dX0_rows_94 : decode cX0_rows 94 = .ok (.aload_n 0, 1) := dk_42 (dk_at dksX0_rows_3 22 rfl rfl)
theorem dX0_rows_95 : decode cX0_rows 95 = .ok (.getfield 106, 3) := dk_180 0 106 (dk_at dksX0_rows_4 0 rfl rfl)
theorem dX0_rows_98 : decode cX0_rows 98 = .ok (.iload_n 2, 1) := dk_28 (dk_at dksX0_rows_4 3 rfl rfl)
theorem dX0_rows_99 : decode cX0_rows 99 = .ok (.bipush 10, 2) := dk_16 10 (dk_at dksX0_rows_4 4 rfl rfl)
theorem dX0_rows_101 : decode cX0_rows 101 = .ok (.isub, 1) := dk_100 (dk_at dksX0_rows_4 6 rfl rfl)
theorem dX0_rows_102 : decode cX0_rows 102 = .ok (.iaload, 1) := dk_46 (dk_at dksX0_rows_4 7 rfl rfl)
theorem dX0_rows_103 : decode cX0_rows 103 = .ok (.ireturn, 1) := dk_172 (dk_at dksX0_rows_4 8 rfl rfl)
abbrev cX0_orders : ByteArray := prog_1_method_53_code
def yX0_orders : MethodName := ⟨RX0, "orders", "(III)V"⟩
def dkwX0_orders_8 : List UInt8 := [29, 4, 21, 4, 120, 128, 182, 1, 99, 132, 4, 1, 167, 255, 213, 177]
abbrev dktX0_orders_8 : List UInt8 := dkwX0_orders_8 ++ []
def dkwX0_orders_7 : List UInt8 := [21, 4, 184, 0, 255, 153, 0, 6, 167, 0, 25, 42, 180, 0, 97, 27, 21, 4, 79, 42, 27, 4, 96, 28]
abbrev dktX0_orders_7 : List UInt8 := dkwX0_orders_7 ++ dktX0_orders_8
def dkwX0_orders_6 : List UInt8 := [180, 0, 100, 21, 6, 46, 79, 132, 6, 1, 167, 255, 219, 177, 3, 54, 4, 21, 4, 28, 162, 0, 43, 29]
abbrev dktX0_orders_6 : List UInt8 := dkwX0_orders_6 ++ dktX0_orders_7
def dkwX0_orders_5 : List UInt8 := [162, 0, 37, 42, 180, 0, 103, 21, 6, 42, 180, 0, 97, 21, 6, 46, 79, 42, 180, 0, 106, 21, 6, 42]
abbrev dktX0_orders_5 : List UInt8 := dkwX0_orders_5 ++ dktX0_orders_6
def dkwX0_orders_4 : List UInt8 := [161, 0, 4, 177, 42, 21, 4, 181, 1, 93, 42, 21, 5, 181, 1, 96, 3, 54, 6, 21, 6, 28]
abbrev dktX0_orders_4 : List UInt8 := dkwX0_orders_4 ++ dktX0_orders_5
def dkwX0_orders_3 : List UInt8 := [21, 4, 42, 180, 1, 93, 163, 0, 21, 21, 4, 42, 180, 1, 93, 160, 0, 13, 21, 5, 42, 180, 1, 96]
abbrev dktX0_orders_3 : List UInt8 := dkwX0_orders_3 ++ dktX0_orders_4
def dkwX0_orders_2 : List UInt8 := [180, 0, 100, 21, 6, 46, 96, 54, 5, 132, 6, 1, 167, 255, 221, 42, 180, 1, 93, 2, 159, 0, 31]
abbrev dktX0_orders_2 : List UInt8 := dkwX0_orders_2 ++ dktX0_orders_3
def dkwX0_orders_1 : List UInt8 := [21, 6, 28, 162, 0, 35, 21, 4, 42, 180, 0, 100, 21, 6, 46, 184, 1, 43, 54, 4, 21, 5, 42]
abbrev dktX0_orders_1 : List UInt8 := dkwX0_orders_1 ++ dktX0_orders_2
def dkwX0_orders_0 : List UInt8 := [27, 28, 160, 0, 151, 42, 28, 182, 1, 90, 154, 0, 4, 177, 3, 54, 4, 3, 54, 5, 3, 54, 6]
abbrev dktX0_orders_0 : List UInt8 := dkwX0_orders_0 ++ dktX0_orders_1
theorem dksX0_orders_0 : cX0_orders.data.toList.drop 0 = dktX0_orders_0 := by decide +kernel
theorem dksX0_orders_1 : cX0_orders.data.toList.drop 23 = dktX0_orders_1 := dk_seg dksX0_orders_0 23 rfl rfl
theorem dksX0_orders_2 : cX0_orders.data.toList.drop 46 = dktX0_orders_2 := dk_seg dksX0_orders_1 23 rfl rfl
theorem dksX0_orders_3 : cX0_orders.data.toList.drop 69 = dktX0_orders_3 := dk_seg dksX0_orders_2 23 rfl rfl
theorem dksX0_orders_4 : cX0_orders.data.toList.drop 93 = dktX0_orders_4 := dk_seg dksX0_orders_3 24 rfl rfl
theorem dksX0_orders_5 : cX0_orders.data.toList.drop 115 = dktX0_orders_5 := dk_seg dksX0_orders_4 22 rfl rfl
theorem dksX0_orders_6 : cX0_orders.data.toList.drop 139 = dktX0_orders_6 := dk_seg dksX0_orders_5 24 rfl rfl
theorem dksX0_orders_7 : cX0_orders.data.toList.drop 163 = dktX0_orders_7 := dk_seg dksX0_orders_6 24 rfl rfl
theorem dksX0_orders_8 : cX0_orders.data.toList.drop 187 = dktX0_orders_8 := dk_seg dksX0_orders_7 24 rfl rfl
theorem dX0_orders_0 : decode cX0_orders 0 = .ok (.iload_n 1, 1) := dk_27 (dk_at dksX0_orders_0 0 rfl rfl)
theorem dX0_orders_1 : decode cX0_orders 1 = .ok (.iload_n 2, 1) := dk_28 (dk_at dksX0_orders_0 1 rfl rfl)
theorem dX0_orders_2 : decode cX0_orders 2 = .ok (.if_icmp .ne 151, 3) := dk_160 0 151 (dk_at dksX0_orders_0 2 rfl rfl)
theorem dX0_orders_5 : decode cX0_orders 5 = .ok (.aload_n 0, 1) := dk_42 (dk_at dksX0_orders_0 5 rfl rfl)
theorem dX0_orders_6 : decode cX0_orders 6 = .ok (.iload_n 2, 1) := dk_28 (dk_at dksX0_orders_0 6 rfl rfl)
theorem dX0_orders_7 : decode cX0_orders 7 = .ok (.invokevirtual 346, 3) := dk_182 1 90 (dk_at dksX0_orders_0 7 rfl rfl)
theorem dX0_orders_10 : decode cX0_orders 10 = .ok (.ifCond .ne 4, 3) := dk_154 0 4 (dk_at dksX0_orders_0 10 rfl rfl)
theorem dX0_orders_13 : decode cX0_orders 13 = .ok (.return_, 1) := dk_177 (dk_at dksX0_orders_0 13 rfl rfl)
theorem dX0_orders_14 : decode cX0_orders 14 = .ok (.iconst 0, 1) := dk_3 (dk_at dksX0_orders_0 14 rfl rfl)
theorem dX0_orders_15 : decode cX0_orders 15 = .ok (.istore 4, 2) := dk_54 4 (dk_at dksX0_orders_0 15 rfl rfl)
theorem dX0_orders_17 : decode cX0_orders 17 = .ok (.iconst 0, 1) := dk_3 (dk_at dksX0_orders_0 17 rfl rfl)
theorem dX0_orders_18 : decode cX0_orders 18 = .ok (.istore 5, 2) := dk_54 5 (dk_at dksX0_orders_0 18 rfl rfl)
theorem dX0_orders_20 : decode cX0_orders 20 = .ok (.iconst 0, 1) := dk_3 (dk_at dksX0_orders_0 20 rfl rfl)
theorem dX0_orders_21 : decode cX0_orders 21 = .ok (.istore 6, 2) := dk_54 6 (dk_at dksX0_orders_0 21 rfl rfl)
theorem dX0_orders_23 : decode cX0_orders 23 = .ok (.iload 6, 2) := dk_21 6 (dk_at dksX0_orders_1 0 rfl rfl)
theorem dX0_orders_25 : decode cX0_orders 25 = .ok (.iload_n 2, 1) := dk_28 (dk_at dksX0_orders_1 2 rfl rfl)
theorem dX0_orders_26 : decode cX0_orders 26 = .ok (.if_icmp .ge 35, 3) := dk_162 0 35 (dk_at dksX0_orders_1 3 rfl rfl)
theorem dX0_orders_29 : decode cX0_orders 29 = .ok (.iload 4, 2) := dk_21 4 (dk_at dksX0_orders_1 6 rfl rfl)
theorem dX0_orders_31 : decode cX0_orders 31 = .ok (.aload_n 0, 1) := dk_42 (dk_at dksX0_orders_1 8 rfl rfl)
theorem dX0_orders_32 : decode cX0_orders 32 = .ok (.getfield 100, 3) := dk_180 0 100 (dk_at dksX0_orders_1 9 rfl rfl)
theorem dX0_orders_35 : decode cX0_orders 35 = .ok (.iload 6, 2) := dk_21 6 (dk_at dksX0_orders_1 12 rfl rfl)
theorem dX0_orders_37 : decode cX0_orders 37 = .ok (.iaload, 1) := dk_46 (dk_at dksX0_orders_1 14 rfl rfl)
theorem dX0_orders_38 : decode cX0_orders 38 = .ok (.invokestatic 299, 3) := dk_184 1 43 (dk_at dksX0_orders_1 15 rfl rfl)
theorem dX0_orders_41 : decode cX0_orders 41 = .ok (.istore 4, 2) := dk_54 4 (dk_at dksX0_orders_1 18 rfl rfl)
theorem dX0_orders_43 : decode cX0_orders 43 = .ok (.iload 5, 2) := dk_21 5 (dk_at dksX0_orders_1 20 rfl rfl)
theorem dX0_orders_45 : decode cX0_orders 45 = .ok (.aload_n 0, 1) := dk_42 (dk_at dksX0_orders_1 22 rfl rfl)
theorem dX0_orders_46 : decode cX0_orders 46 = .ok (.getfield 100, 3) := dk_180 0 100 (dk_at dksX0_orders_2 0 rfl rfl)
theorem dX0_orders_49 : decode cX0_orders 49 = .ok (.iload 6, 2) := dk_21 6 (dk_at dksX0_orders_2 3 rfl rfl)
theorem dX0_orders_51 : decode cX0_orders 51 = .ok (.iaload, 1) := dk_46 (dk_at dksX0_orders_2 5 rfl rfl)
theorem dX0_orders_52 : decode cX0_orders 52 = .ok (.iadd, 1) := dk_96 (dk_at dksX0_orders_2 6 rfl rfl)
theorem dX0_orders_53 : decode cX0_orders 53 = .ok (.istore 5, 2) := dk_54 5 (dk_at dksX0_orders_2 7 rfl rfl)
theorem dX0_orders_55 : decode cX0_orders 55 = .ok (.iinc 6 1, 3) := dk_132 6 1 (dk_at dksX0_orders_2 9 rfl rfl)
theorem dX0_orders_58 : decode cX0_orders 58 = .ok (.goto (-35), 3) := dk_167 255 221 (dk_at dksX0_orders_2 12 rfl rfl)
theorem dX0_orders_61 : decode cX0_orders 61 = .ok (.aload_n 0, 1) := dk_42 (dk_at dksX0_orders_2 15 rfl rfl)
theorem dX0_orders_62 : decode cX0_orders 62 = .ok (.getfield 349, 3) := dk_180 1 93 (dk_at dksX0_orders_2 16 rfl rfl)
theorem dX0_orders_65 : decode cX0_orders 65 = .ok (.iconst (-1), 1) := dk_2 (dk_at dksX0_orders_2 19 rfl rfl)
theorem dX0_orders_66 : decode cX0_orders 66 = .ok (.if_icmp .eq 31, 3) := dk_159 0 31 (dk_at dksX0_orders_2 20 rfl rfl)
theorem dX0_orders_69 : decode cX0_orders 69 = .ok (.iload 4, 2) := dk_21 4 (dk_at dksX0_orders_3 0 rfl rfl)
theorem dX0_orders_71 : decode cX0_orders 71 = .ok (.aload_n 0, 1) := dk_42 (dk_at dksX0_orders_3 2 rfl rfl)
theorem dX0_orders_72 : decode cX0_orders 72 = .ok (.getfield 349, 3) := dk_180 1 93 (dk_at dksX0_orders_3 3 rfl rfl)
theorem dX0_orders_75 : decode cX0_orders 75 = .ok (.if_icmp .gt 21, 3) := dk_163 0 21 (dk_at dksX0_orders_3 6 rfl rfl)
theorem dX0_orders_78 : decode cX0_orders 78 = .ok (.iload 4, 2) := dk_21 4 (dk_at dksX0_orders_3 9 rfl rfl)
theorem dX0_orders_80 : decode cX0_orders 80 = .ok (.aload_n 0, 1) := dk_42 (dk_at dksX0_orders_3 11 rfl rfl)
theorem dX0_orders_81 : decode cX0_orders 81 = .ok (.getfield 349, 3) := dk_180 1 93 (dk_at dksX0_orders_3 12 rfl rfl)
theorem dX0_orders_84 : decode cX0_orders 84 = .ok (.if_icmp .ne 13, 3) := dk_160 0 13 (dk_at dksX0_orders_3 15 rfl rfl)
theorem dX0_orders_87 : decode cX0_orders 87 = .ok (.iload 5, 2) := dk_21 5 (dk_at dksX0_orders_3 18 rfl rfl)
theorem dX0_orders_89 : decode cX0_orders 89 = .ok (.aload_n 0, 1) := dk_42 (dk_at dksX0_orders_3 20 rfl rfl)
theorem dX0_orders_90 : decode cX0_orders 90 = .ok (.getfield 352, 3) := dk_180 1 96 (dk_at dksX0_orders_3 21 rfl rfl)
theorem dX0_orders_93 : decode cX0_orders 93 = .ok (.if_icmp .lt 4, 3) := dk_161 0 4 (dk_at dksX0_orders_4 0 rfl rfl)
theorem dX0_orders_96 : decode cX0_orders 96 = .ok (.return_, 1) := dk_177 (dk_at dksX0_orders_4 3 rfl rfl)
theorem dX0_orders_97 : decode cX0_orders 97 = .ok (.aload_n 0, 1) := dk_42 (dk_at dksX0_orders_4 4 rfl rfl)
theorem dX0_orders_98 : decode cX0_orders 98 = .ok (.iload 4, 2) := dk_21 4 (dk_at dksX0_orders_4 5 rfl rfl)
theorem dX0_orders_100 : decode cX0_orders 100 = .ok (.putfield 349, 3) := dk_181 1 93 (dk_at dksX0_orders_4 7 rfl rfl)
theorem dX0_orders_103 : decode cX0_orders 103 = .ok (.aload_n 0, 1) := dk_42 (dk_at dksX0_orders_4 10 rfl rfl)
theorem dX0_orders_104 : decode cX0_orders 104 = .ok (.iload 5, 2) := dk_21 5 (dk_at dksX0_orders_4 11 rfl rfl)
theorem dX0_orders_106 : decode cX0_orders 106 = .ok (.putfield 352, 3) := dk_181 1 96 (dk_at dksX0_orders_4 13 rfl rfl)
theorem dX0_orders_109 : decode cX0_orders 109 = .ok (.iconst 0, 1) := dk_3 (dk_at dksX0_orders_4 16 rfl rfl)
theorem dX0_orders_110 : decode cX0_orders 110 = .ok (.istore 6, 2) := dk_54 6 (dk_at dksX0_orders_4 17 rfl rfl)
theorem dX0_orders_112 : decode cX0_orders 112 = .ok (.iload 6, 2) := dk_21 6 (dk_at dksX0_orders_4 19 rfl rfl)
theorem dX0_orders_114 : decode cX0_orders 114 = .ok (.iload_n 2, 1) := dk_28 (dk_at dksX0_orders_4 21 rfl rfl)
theorem dX0_orders_115 : decode cX0_orders 115 = .ok (.if_icmp .ge 37, 3) := dk_162 0 37 (dk_at dksX0_orders_5 0 rfl rfl)
theorem dX0_orders_118 : decode cX0_orders 118 = .ok (.aload_n 0, 1) := dk_42 (dk_at dksX0_orders_5 3 rfl rfl)
theorem dX0_orders_119 : decode cX0_orders 119 = .ok (.getfield 103, 3) := dk_180 0 103 (dk_at dksX0_orders_5 4 rfl rfl)
theorem dX0_orders_122 : decode cX0_orders 122 = .ok (.iload 6, 2) := dk_21 6 (dk_at dksX0_orders_5 7 rfl rfl)
theorem dX0_orders_124 : decode cX0_orders 124 = .ok (.aload_n 0, 1) := dk_42 (dk_at dksX0_orders_5 9 rfl rfl)
theorem dX0_orders_125 : decode cX0_orders 125 = .ok (.getfield 97, 3) := dk_180 0 97 (dk_at dksX0_orders_5 10 rfl rfl)
theorem dX0_orders_128 : decode cX0_orders 128 = .ok (.iload 6, 2) := dk_21 6 (dk_at dksX0_orders_5 13 rfl rfl)
theorem dX0_orders_130 : decode cX0_orders 130 = .ok (.iaload, 1) := dk_46 (dk_at dksX0_orders_5 15 rfl rfl)
theorem dX0_orders_131 : decode cX0_orders 131 = .ok (.iastore, 1) := dk_79 (dk_at dksX0_orders_5 16 rfl rfl)
theorem dX0_orders_132 : decode cX0_orders 132 = .ok (.aload_n 0, 1) := dk_42 (dk_at dksX0_orders_5 17 rfl rfl)
theorem dX0_orders_133 : decode cX0_orders 133 = .ok (.getfield 106, 3) := dk_180 0 106 (dk_at dksX0_orders_5 18 rfl rfl)
theorem dX0_orders_136 : decode cX0_orders 136 = .ok (.iload 6, 2) := dk_21 6 (dk_at dksX0_orders_5 21 rfl rfl)
theorem dX0_orders_138 : decode cX0_orders 138 = .ok (.aload_n 0, 1) := dk_42 (dk_at dksX0_orders_5 23 rfl rfl)
theorem dX0_orders_139 : decode cX0_orders 139 = .ok (.getfield 100, 3) := dk_180 0 100 (dk_at dksX0_orders_6 0 rfl rfl)
theorem dX0_orders_142 : decode cX0_orders 142 = .ok (.iload 6, 2) := dk_21 6 (dk_at dksX0_orders_6 3 rfl rfl)
theorem dX0_orders_144 : decode cX0_orders 144 = .ok (.iaload, 1) := dk_46 (dk_at dksX0_orders_6 5 rfl rfl)
theorem dX0_orders_145 : decode cX0_orders 145 = .ok (.iastore, 1) := dk_79 (dk_at dksX0_orders_6 6 rfl rfl)
theorem dX0_orders_146 : decode cX0_orders 146 = .ok (.iinc 6 1, 3) := dk_132 6 1 (dk_at dksX0_orders_6 7 rfl rfl)
theorem dX0_orders_149 : decode cX0_orders 149 = .ok (.goto (-37), 3) := dk_167 255 219 (dk_at dksX0_orders_6 10 rfl rfl)
theorem dX0_orders_152 : decode cX0_orders 152 = .ok (.return_, 1) := dk_177 (dk_at dksX0_orders_6 13 rfl rfl)
theorem dX0_orders_153 : decode cX0_orders 153 = .ok (.iconst 0, 1) := dk_3 (dk_at dksX0_orders_6 14 rfl rfl)
theorem dX0_orders_154 : decode cX0_orders 154 = .ok (.istore 4, 2) := dk_54 4 (dk_at dksX0_orders_6 15 rfl rfl)
theorem dX0_orders_156 : decode cX0_orders 156 = .ok (.iload 4, 2) := dk_21 4 (dk_at dksX0_orders_6 17 rfl rfl)
theorem dX0_orders_158 : decode cX0_orders 158 = .ok (.iload_n 2, 1) := dk_28 (dk_at dksX0_orders_6 19 rfl rfl)
theorem dX0_orders_159 : decode cX0_orders 159 = .ok (.if_icmp .ge 43, 3) := dk_162 0 43 (dk_at dksX0_orders_6 20 rfl rfl)
theorem dX0_orders_162 : decode cX0_orders 162 = .ok (.iload_n 3, 1) := dk_29 (dk_at dksX0_orders_6 23 rfl rfl)
theorem dX0_orders_163 : decode cX0_orders 163 = .ok (.iload 4, 2) := dk_21 4 (dk_at dksX0_orders_7 0 rfl rfl)
theorem dX0_orders_165 : decode cX0_orders 165 = .ok (.invokestatic 255, 3) := dk_184 0 255 (dk_at dksX0_orders_7 2 rfl rfl)
theorem dX0_orders_168 : decode cX0_orders 168 = .ok (.ifCond .eq 6, 3) := dk_153 0 6 (dk_at dksX0_orders_7 5 rfl rfl)
theorem dX0_orders_171 : decode cX0_orders 171 = .ok (.goto 25, 3) := dk_167 0 25 (dk_at dksX0_orders_7 8 rfl rfl)
theorem dX0_orders_174 : decode cX0_orders 174 = .ok (.aload_n 0, 1) := dk_42 (dk_at dksX0_orders_7 11 rfl rfl)
theorem dX0_orders_175 : decode cX0_orders 175 = .ok (.getfield 97, 3) := dk_180 0 97 (dk_at dksX0_orders_7 12 rfl rfl)
theorem dX0_orders_178 : decode cX0_orders 178 = .ok (.iload_n 1, 1) := dk_27 (dk_at dksX0_orders_7 15 rfl rfl)
theorem dX0_orders_179 : decode cX0_orders 179 = .ok (.iload 4, 2) := dk_21 4 (dk_at dksX0_orders_7 16 rfl rfl)
theorem dX0_orders_181 : decode cX0_orders 181 = .ok (.iastore, 1) := dk_79 (dk_at dksX0_orders_7 18 rfl rfl)
theorem dX0_orders_182 : decode cX0_orders 182 = .ok (.aload_n 0, 1) := dk_42 (dk_at dksX0_orders_7 19 rfl rfl)
theorem dX0_orders_183 : decode cX0_orders 183 = .ok (.iload_n 1, 1) := dk_27 (dk_at dksX0_orders_7 20 rfl rfl)
theorem dX0_orders_184 : decode cX0_orders 184 = .ok (.iconst 1, 1) := dk_4 (dk_at dksX0_orders_7 21 rfl rfl)
theorem dX0_orders_185 : decode cX0_orders 185 = .ok (.iadd, 1) := dk_96 (dk_at dksX0_orders_7 22 rfl rfl)
theorem dX0_orders_186 : decode cX0_orders 186 = .ok (.iload_n 2, 1) := dk_28 (dk_at dksX0_orders_7 23 rfl rfl)
theorem dX0_orders_187 : decode cX0_orders 187 = .ok (.iload_n 3, 1) := dk_29 (dk_at dksX0_orders_8 0 rfl rfl)
theorem dX0_orders_188 : decode cX0_orders 188 = .ok (.iconst 1, 1) := dk_4 (dk_at dksX0_orders_8 1 rfl rfl)
theorem dX0_orders_189 : decode cX0_orders 189 = .ok (.iload 4, 2) := dk_21 4 (dk_at dksX0_orders_8 2 rfl rfl)
theorem dX0_orders_191 : decode cX0_orders 191 = .ok (.ishl, 1) := dk_120 (dk_at dksX0_orders_8 4 rfl rfl)
theorem dX0_orders_192 : decode cX0_orders 192 = .ok (.ior, 1) := dk_128 (dk_at dksX0_orders_8 5 rfl rfl)
theorem dX0_orders_193 : decode cX0_orders 193 = .ok (.invokevirtual 355, 3) := dk_182 1 99 (dk_at dksX0_orders_8 6 rfl rfl)
theorem dX0_orders_196 : decode cX0_orders 196 = .ok (.iinc 4 1, 3) := dk_132 4 1 (dk_at dksX0_orders_8 9 rfl rfl)
theorem dX0_orders_199 : decode cX0_orders 199 = .ok (.goto (-43), 3) := dk_167 255 213 (dk_at dksX0_orders_8 12 rfl rfl)
theorem dX0_orders_202 : decode cX0_orders 202 = .ok (.return_, 1) := dk_177 (dk_at dksX0_orders_8 15 rfl rfl)
abbrev cX0_walksAll : ByteArray := prog_1_method_52_code
def yX0_walksAll : MethodName := ⟨RX0, "walksAll", "(I)Z"⟩
def dkwX0_walksAll_6 : List UInt8 := [28, 172]
abbrev dktX0_walksAll_6 : List UInt8 := dkwX0_walksAll_6 ++ []
def dkwX0_walksAll_5 : List UInt8 := [182, 1, 30, 180, 1, 34, 79, 132, 5, 1, 167, 255, 188, 132, 3, 1, 167, 255, 126, 42, 3, 181, 0, 235]
abbrev dktX0_walksAll_5 : List UInt8 := dkwX0_walksAll_5 ++ dktX0_walksAll_6
def dkwX0_walksAll_4 : List UInt8 := [21, 5, 46, 79, 25, 6, 4, 42, 180, 0, 91, 21, 5, 46, 79, 25, 6, 5, 42, 180, 0, 31, 21, 4]
abbrev dktX0_walksAll_4 : List UInt8 := dkwX0_walksAll_4 ++ dktX0_walksAll_5
def dkwX0_walksAll_3 : List UInt8 := [180, 0, 75, 42, 89, 180, 0, 235, 90, 4, 96, 181, 0, 235, 50, 58, 6, 25, 6, 3, 42, 180, 0, 88]
abbrev dktX0_walksAll_3 : List UInt8 := dkwX0_walksAll_3 ++ dktX0_walksAll_4
def dkwX0_walksAll_2 : List UInt8 := [180, 0, 69, 180, 1, 41, 21, 4, 46, 46, 79, 3, 54, 5, 21, 5, 42, 180, 1, 60, 162, 0, 65, 42]
abbrev dktX0_walksAll_2 : List UInt8 := dkwX0_walksAll_2 ++ dktX0_walksAll_3
def dkwX0_walksAll_1 : List UInt8 := [182, 1, 73, 61, 28, 154, 0, 6, 167, 0, 99, 42, 180, 0, 100, 21, 4, 42, 180, 0, 81, 42]
abbrev dktX0_walksAll_1 : List UInt8 := dkwX0_walksAll_1 ++ dktX0_walksAll_2
def dkwX0_walksAll_0 : List UInt8 := [4, 61, 3, 62, 29, 27, 162, 0, 131, 28, 153, 0, 127, 42, 180, 0, 97, 29, 46, 54, 4, 42, 21, 4]
abbrev dktX0_walksAll_0 : List UInt8 := dkwX0_walksAll_0 ++ dktX0_walksAll_1
theorem dksX0_walksAll_0 : cX0_walksAll.data.toList.drop 0 = dktX0_walksAll_0 := by decide +kernel
theorem dksX0_walksAll_1 : cX0_walksAll.data.toList.drop 24 = dktX0_walksAll_1 := dk_seg dksX0_walksAll_0 24 rfl rfl
theorem dksX0_walksAll_2 : cX0_walksAll.data.toList.drop 46 = dktX0_walksAll_2 := dk_seg dksX0_walksAll_1 22 rfl rfl
theorem dksX0_walksAll_3 : cX0_walksAll.data.toList.drop 70 = dktX0_walksAll_3 := dk_seg dksX0_walksAll_2 24 rfl rfl
theorem dksX0_walksAll_4 : cX0_walksAll.data.toList.drop 94 = dktX0_walksAll_4 := dk_seg dksX0_walksAll_3 24 rfl rfl
theorem dksX0_walksAll_5 : cX0_walksAll.data.toList.drop 118 = dktX0_walksAll_5 := dk_seg dksX0_walksAll_4 24 rfl rfl
theorem dksX0_walksAll_6 : cX0_walksAll.data.toList.drop 142 = dktX0_walksAll_6 := dk_seg dksX0_walksAll_5 24 rfl rfl
theorem dX0_walksAll_0 : decode cX0_walksAll 0 = .ok (.iconst 1, 1) := dk_4 (dk_at dksX0_walksAll_0 0 rfl rfl)
theorem dX0_walksAll_1 : decode cX0_walksAll 1 = .ok (.istore_n 2, 1) := dk_61 (dk_at dksX0_walksAll_0 1 rfl rfl)
theorem dX0_walksAll_2 : decode cX0_walksAll 2 = .ok (.iconst 0, 1) := dk_3 (dk_at dksX0_walksAll_0 2 rfl rfl)
theorem dX0_walksAll_3 : decode cX0_walksAll 3 = .ok (.istore_n 3, 1) := dk_62 (dk_at dksX0_walksAll_0 3 rfl rfl)
theorem dX0_walksAll_4 : decode cX0_walksAll 4 = .ok (.iload_n 3, 1) := dk_29 (dk_at dksX0_walksAll_0 4 rfl rfl)
theorem dX0_walksAll_5 : decode cX0_walksAll 5 = .ok (.iload_n 1, 1) := dk_27 (dk_at dksX0_walksAll_0 5 rfl rfl)
theorem dX0_walksAll_6 : decode cX0_walksAll 6 = .ok (.if_icmp .ge 131, 3) := dk_162 0 131 (dk_at dksX0_walksAll_0 6 rfl rfl)
theorem dX0_walksAll_9 : decode cX0_walksAll 9 = .ok (.iload_n 2, 1) := dk_28 (dk_at dksX0_walksAll_0 9 rfl rfl)
theorem dX0_walksAll_10 : decode cX0_walksAll 10 = .ok (.ifCond .eq 127, 3) := dk_153 0 127 (dk_at dksX0_walksAll_0 10 rfl rfl)
theorem dX0_walksAll_13 : decode cX0_walksAll 13 = .ok (.aload_n 0, 1) := dk_42 (dk_at dksX0_walksAll_0 13 rfl rfl)
theorem dX0_walksAll_14 : decode cX0_walksAll 14 = .ok (.getfield 97, 3) := dk_180 0 97 (dk_at dksX0_walksAll_0 14 rfl rfl)
theorem dX0_walksAll_17 : decode cX0_walksAll 17 = .ok (.iload_n 3, 1) := dk_29 (dk_at dksX0_walksAll_0 17 rfl rfl)
theorem dX0_walksAll_18 : decode cX0_walksAll 18 = .ok (.iaload, 1) := dk_46 (dk_at dksX0_walksAll_0 18 rfl rfl)
theorem dX0_walksAll_19 : decode cX0_walksAll 19 = .ok (.istore 4, 2) := dk_54 4 (dk_at dksX0_walksAll_0 19 rfl rfl)
theorem dX0_walksAll_21 : decode cX0_walksAll 21 = .ok (.aload_n 0, 1) := dk_42 (dk_at dksX0_walksAll_0 21 rfl rfl)
theorem dX0_walksAll_22 : decode cX0_walksAll 22 = .ok (.iload 4, 2) := dk_21 4 (dk_at dksX0_walksAll_0 22 rfl rfl)
theorem dX0_walksAll_24 : decode cX0_walksAll 24 = .ok (.invokevirtual 329, 3) := dk_182 1 73 (dk_at dksX0_walksAll_1 0 rfl rfl)
theorem dX0_walksAll_27 : decode cX0_walksAll 27 = .ok (.istore_n 2, 1) := dk_61 (dk_at dksX0_walksAll_1 3 rfl rfl)
theorem dX0_walksAll_28 : decode cX0_walksAll 28 = .ok (.iload_n 2, 1) := dk_28 (dk_at dksX0_walksAll_1 4 rfl rfl)
theorem dX0_walksAll_29 : decode cX0_walksAll 29 = .ok (.ifCond .ne 6, 3) := dk_154 0 6 (dk_at dksX0_walksAll_1 5 rfl rfl)
theorem dX0_walksAll_32 : decode cX0_walksAll 32 = .ok (.goto 99, 3) := dk_167 0 99 (dk_at dksX0_walksAll_1 8 rfl rfl)
theorem dX0_walksAll_35 : decode cX0_walksAll 35 = .ok (.aload_n 0, 1) := dk_42 (dk_at dksX0_walksAll_1 11 rfl rfl)
theorem dX0_walksAll_36 : decode cX0_walksAll 36 = .ok (.getfield 100, 3) := dk_180 0 100 (dk_at dksX0_walksAll_1 12 rfl rfl)
theorem dX0_walksAll_39 : decode cX0_walksAll 39 = .ok (.iload 4, 2) := dk_21 4 (dk_at dksX0_walksAll_1 15 rfl rfl)
theorem dX0_walksAll_41 : decode cX0_walksAll 41 = .ok (.aload_n 0, 1) := dk_42 (dk_at dksX0_walksAll_1 17 rfl rfl)
theorem dX0_walksAll_42 : decode cX0_walksAll 42 = .ok (.getfield 81, 3) := dk_180 0 81 (dk_at dksX0_walksAll_1 18 rfl rfl)
theorem dX0_walksAll_45 : decode cX0_walksAll 45 = .ok (.aload_n 0, 1) := dk_42 (dk_at dksX0_walksAll_1 21 rfl rfl)
theorem dX0_walksAll_46 : decode cX0_walksAll 46 = .ok (.getfield 69, 3) := dk_180 0 69 (dk_at dksX0_walksAll_2 0 rfl rfl)
theorem dX0_walksAll_49 : decode cX0_walksAll 49 = .ok (.getfield 297, 3) := dk_180 1 41 (dk_at dksX0_walksAll_2 3 rfl rfl)
theorem dX0_walksAll_52 : decode cX0_walksAll 52 = .ok (.iload 4, 2) := dk_21 4 (dk_at dksX0_walksAll_2 6 rfl rfl)
theorem dX0_walksAll_54 : decode cX0_walksAll 54 = .ok (.iaload, 1) := dk_46 (dk_at dksX0_walksAll_2 8 rfl rfl)
theorem dX0_walksAll_55 : decode cX0_walksAll 55 = .ok (.iaload, 1) := dk_46 (dk_at dksX0_walksAll_2 9 rfl rfl)
theorem dX0_walksAll_56 : decode cX0_walksAll 56 = .ok (.iastore, 1) := dk_79 (dk_at dksX0_walksAll_2 10 rfl rfl)
theorem dX0_walksAll_57 : decode cX0_walksAll 57 = .ok (.iconst 0, 1) := dk_3 (dk_at dksX0_walksAll_2 11 rfl rfl)
theorem dX0_walksAll_58 : decode cX0_walksAll 58 = .ok (.istore 5, 2) := dk_54 5 (dk_at dksX0_walksAll_2 12 rfl rfl)
theorem dX0_walksAll_60 : decode cX0_walksAll 60 = .ok (.iload 5, 2) := dk_21 5 (dk_at dksX0_walksAll_2 14 rfl rfl)
theorem dX0_walksAll_62 : decode cX0_walksAll 62 = .ok (.aload_n 0, 1) := dk_42 (dk_at dksX0_walksAll_2 16 rfl rfl)
theorem dX0_walksAll_63 : decode cX0_walksAll 63 = .ok (.getfield 316, 3) := dk_180 1 60 (dk_at dksX0_walksAll_2 17 rfl rfl)
theorem dX0_walksAll_66 : decode cX0_walksAll 66 = .ok (.if_icmp .ge 65, 3) := dk_162 0 65 (dk_at dksX0_walksAll_2 20 rfl rfl)
theorem dX0_walksAll_69 : decode cX0_walksAll 69 = .ok (.aload_n 0, 1) := dk_42 (dk_at dksX0_walksAll_2 23 rfl rfl)
theorem dX0_walksAll_70 : decode cX0_walksAll 70 = .ok (.getfield 75, 3) := dk_180 0 75 (dk_at dksX0_walksAll_3 0 rfl rfl)
theorem dX0_walksAll_73 : decode cX0_walksAll 73 = .ok (.aload_n 0, 1) := dk_42 (dk_at dksX0_walksAll_3 3 rfl rfl)
theorem dX0_walksAll_74 : decode cX0_walksAll 74 = .ok (.dup, 1) := dk_89 (dk_at dksX0_walksAll_3 4 rfl rfl)
theorem dX0_walksAll_75 : decode cX0_walksAll 75 = .ok (.getfield 235, 3) := dk_180 0 235 (dk_at dksX0_walksAll_3 5 rfl rfl)
theorem dX0_walksAll_78 : decode cX0_walksAll 78 = .ok (.dup_x1, 1) := dk_90 (dk_at dksX0_walksAll_3 8 rfl rfl)
theorem dX0_walksAll_79 : decode cX0_walksAll 79 = .ok (.iconst 1, 1) := dk_4 (dk_at dksX0_walksAll_3 9 rfl rfl)
theorem dX0_walksAll_80 : decode cX0_walksAll 80 = .ok (.iadd, 1) := dk_96 (dk_at dksX0_walksAll_3 10 rfl rfl)
theorem dX0_walksAll_81 : decode cX0_walksAll 81 = .ok (.putfield 235, 3) := dk_181 0 235 (dk_at dksX0_walksAll_3 11 rfl rfl)
theorem dX0_walksAll_84 : decode cX0_walksAll 84 = .ok (.aaload, 1) := dk_50 (dk_at dksX0_walksAll_3 14 rfl rfl)
theorem dX0_walksAll_85 : decode cX0_walksAll 85 = .ok (.astore 6, 2) := dk_58 6 (dk_at dksX0_walksAll_3 15 rfl rfl)
theorem dX0_walksAll_87 : decode cX0_walksAll 87 = .ok (.aload 6, 2) := dk_25 6 (dk_at dksX0_walksAll_3 17 rfl rfl)
theorem dX0_walksAll_89 : decode cX0_walksAll 89 = .ok (.iconst 0, 1) := dk_3 (dk_at dksX0_walksAll_3 19 rfl rfl)
theorem dX0_walksAll_90 : decode cX0_walksAll 90 = .ok (.aload_n 0, 1) := dk_42 (dk_at dksX0_walksAll_3 20 rfl rfl)
theorem dX0_walksAll_91 : decode cX0_walksAll 91 = .ok (.getfield 88, 3) := dk_180 0 88 (dk_at dksX0_walksAll_3 21 rfl rfl)
theorem dX0_walksAll_94 : decode cX0_walksAll 94 = .ok (.iload 5, 2) := dk_21 5 (dk_at dksX0_walksAll_4 0 rfl rfl)
theorem dX0_walksAll_96 : decode cX0_walksAll 96 = .ok (.iaload, 1) := dk_46 (dk_at dksX0_walksAll_4 2 rfl rfl)
theorem dX0_walksAll_97 : decode cX0_walksAll 97 = .ok (.iastore, 1) := dk_79 (dk_at dksX0_walksAll_4 3 rfl rfl)
theorem dX0_walksAll_98 : decode cX0_walksAll 98 = .ok (.aload 6, 2) := dk_25 6 (dk_at dksX0_walksAll_4 4 rfl rfl)
theorem dX0_walksAll_100 : decode cX0_walksAll 100 = .ok (.iconst 1, 1) := dk_4 (dk_at dksX0_walksAll_4 6 rfl rfl)
theorem dX0_walksAll_101 : decode cX0_walksAll 101 = .ok (.aload_n 0, 1) := dk_42 (dk_at dksX0_walksAll_4 7 rfl rfl)
theorem dX0_walksAll_102 : decode cX0_walksAll 102 = .ok (.getfield 91, 3) := dk_180 0 91 (dk_at dksX0_walksAll_4 8 rfl rfl)
theorem dX0_walksAll_105 : decode cX0_walksAll 105 = .ok (.iload 5, 2) := dk_21 5 (dk_at dksX0_walksAll_4 11 rfl rfl)
theorem dX0_walksAll_107 : decode cX0_walksAll 107 = .ok (.iaload, 1) := dk_46 (dk_at dksX0_walksAll_4 13 rfl rfl)
theorem dX0_walksAll_108 : decode cX0_walksAll 108 = .ok (.iastore, 1) := dk_79 (dk_at dksX0_walksAll_4 14 rfl rfl)
theorem dX0_walksAll_109 : decode cX0_walksAll 109 = .ok (.aload 6, 2) := dk_25 6 (dk_at dksX0_walksAll_4 15 rfl rfl)
theorem dX0_walksAll_111 : decode cX0_walksAll 111 = .ok (.iconst 2, 1) := dk_5 (dk_at dksX0_walksAll_4 17 rfl rfl)
theorem dX0_walksAll_112 : decode cX0_walksAll 112 = .ok (.aload_n 0, 1) := dk_42 (dk_at dksX0_walksAll_4 18 rfl rfl)
theorem dX0_walksAll_113 : decode cX0_walksAll 113 = .ok (.getfield 31, 3) := dk_180 0 31 (dk_at dksX0_walksAll_4 19 rfl rfl)
theorem dX0_walksAll_116 : decode cX0_walksAll 116 = .ok (.iload 4, 2) := dk_21 4 (dk_at dksX0_walksAll_4 22 rfl rfl)
theorem dX0_walksAll_118 : decode cX0_walksAll 118 = .ok (.invokevirtual 286, 3) := dk_182 1 30 (dk_at dksX0_walksAll_5 0 rfl rfl)
theorem dX0_walksAll_121 : decode cX0_walksAll 121 = .ok (.getfield 290, 3) := dk_180 1 34 (dk_at dksX0_walksAll_5 3 rfl rfl)
theorem dX0_walksAll_124 : decode cX0_walksAll 124 = .ok (.iastore, 1) := dk_79 (dk_at dksX0_walksAll_5 6 rfl rfl)
theorem dX0_walksAll_125 : decode cX0_walksAll 125 = .ok (.iinc 5 1, 3) := dk_132 5 1 (dk_at dksX0_walksAll_5 7 rfl rfl)
theorem dX0_walksAll_128 : decode cX0_walksAll 128 = .ok (.goto (-68), 3) := dk_167 255 188 (dk_at dksX0_walksAll_5 10 rfl rfl)
theorem dX0_walksAll_131 : decode cX0_walksAll 131 = .ok (.iinc 3 1, 3) := dk_132 3 1 (dk_at dksX0_walksAll_5 13 rfl rfl)
theorem dX0_walksAll_134 : decode cX0_walksAll 134 = .ok (.goto (-130), 3) := dk_167 255 126 (dk_at dksX0_walksAll_5 16 rfl rfl)
theorem dX0_walksAll_137 : decode cX0_walksAll 137 = .ok (.aload_n 0, 1) := dk_42 (dk_at dksX0_walksAll_5 19 rfl rfl)
theorem dX0_walksAll_138 : decode cX0_walksAll 138 = .ok (.iconst 0, 1) := dk_3 (dk_at dksX0_walksAll_5 20 rfl rfl)
theorem dX0_walksAll_139 : decode cX0_walksAll 139 = .ok (.putfield 235, 3) := dk_181 0 235 (dk_at dksX0_walksAll_5 21 rfl rfl)
theorem dX0_walksAll_142 : decode cX0_walksAll 142 = .ok (.iload_n 2, 1) := dk_28 (dk_at dksX0_walksAll_6 0 rfl rfl)
theorem dX0_walksAll_143 : decode cX0_walksAll 143 = .ok (.ireturn, 1) := dk_172 (dk_at dksX0_walksAll_6 1 rfl rfl)
abbrev cX0_doctors : ByteArray := prog_1_method_57_code
def yX0_doctors : MethodName := ⟨RX0, "doctors", "(III)I"⟩
def dkwX0_doctors_11 : List UInt8 := [172]
abbrev dktX0_doctors_11 : List UInt8 := dkwX0_doctors_11 ++ []
def dkwX0_doctors_10 : List UInt8 := [154, 0, 6, 167, 0, 14, 21, 5, 154, 0, 6, 21, 6, 172, 132, 5, 255, 132, 6, 1, 167, 255, 220, 2]
abbrev dktX0_doctors_10 : List UInt8 := dkwX0_doctors_10 ++ dktX0_doctors_11
def dkwX0_doctors_9 : List UInt8 := [29, 54, 5, 3, 54, 6, 21, 6, 42, 182, 0, 183, 162, 0, 33, 21, 4, 21, 6, 184, 0, 255]
abbrev dktX0_doctors_9 : List UInt8 := dkwX0_doctors_9 ++ dktX0_doctors_10
def dkwX0_doctors_8 : List UInt8 := [159, 0, 8, 29, 2, 160, 0, 19, 21, 4, 2, 160, 0, 7, 2, 167, 0, 8, 21, 4, 184, 1, 108, 172]
abbrev dktX0_doctors_8 : List UInt8 := dkwX0_doctors_8 ++ dktX0_doctors_9
def dkwX0_doctors_7 : List UInt8 := [160, 0, 19, 42, 21, 5, 3, 3, 182, 1, 105, 54, 4, 132, 5, 1, 167, 255, 231, 21, 4, 2]
abbrev dktX0_doctors_7 : List UInt8 := dkwX0_doctors_7 ++ dktX0_doctors_8
def dkwX0_doctors_6 : List UInt8 := [167, 255, 157, 132, 4, 1, 167, 255, 139, 2, 54, 4, 4, 54, 5, 21, 5, 6, 163, 0, 25, 21, 4, 2]
abbrev dktX0_doctors_6 : List UInt8 := dkwX0_doctors_6 ++ dktX0_doctors_7
def dkwX0_doctors_5 : List UInt8 := [28, 96, 163, 0, 10, 4, 21, 6, 120, 167, 0, 4, 3, 128, 79, 132, 6, 1, 167, 255, 201, 132, 5, 1]
abbrev dktX0_doctors_5 : List UInt8 := dkwX0_doctors_5 ++ dktX0_doctors_6
def dkwX0_doctors_4 : List UInt8 := [21, 4, 50, 21, 5, 92, 46, 42, 180, 0, 81, 21, 6, 46, 42, 180, 0, 69, 180, 1, 3, 21, 5, 96]
abbrev dktX0_doctors_4 : List UInt8 := dkwX0_doctors_4 ++ dktX0_doctors_5
def dkwX0_doctors_3 : List UInt8 := [21, 4, 50, 21, 5, 3, 79, 3, 54, 6, 21, 6, 42, 182, 0, 183, 162, 0, 52, 42, 180, 0, 109]
abbrev dktX0_doctors_3 : List UInt8 := dkwX0_doctors_3 ++ dktX0_doctors_4
def dkwX0_doctors_2 : List UInt8 := [162, 0, 98, 42, 21, 4, 27, 42, 180, 0, 69, 180, 1, 3, 21, 5, 96, 182, 1, 56, 42, 180, 0, 109]
abbrev dktX0_doctors_2 : List UInt8 := dkwX0_doctors_2 ++ dktX0_doctors_3
def dkwX0_doctors_1 : List UInt8 := [154, 0, 5, 2, 172, 3, 54, 4, 21, 4, 42, 182, 0, 183, 162, 0, 114, 3, 54, 5, 21, 5, 16, 24]
abbrev dktX0_doctors_1 : List UInt8 := dkwX0_doctors_1 ++ dktX0_doctors_2
def dkwX0_doctors_0 : List UInt8 := [27, 184, 0, 249, 153, 0, 21, 28, 3, 17, 1, 144, 184, 0, 192, 153, 0, 10, 42, 182, 0, 183]
abbrev dktX0_doctors_0 : List UInt8 := dkwX0_doctors_0 ++ dktX0_doctors_1
theorem dksX0_doctors_0 : cX0_doctors.data.toList.drop 0 = dktX0_doctors_0 := by decide +kernel
theorem dksX0_doctors_1 : cX0_doctors.data.toList.drop 22 = dktX0_doctors_1 := dk_seg dksX0_doctors_0 22 rfl rfl
theorem dksX0_doctors_2 : cX0_doctors.data.toList.drop 46 = dktX0_doctors_2 := dk_seg dksX0_doctors_1 24 rfl rfl
theorem dksX0_doctors_3 : cX0_doctors.data.toList.drop 70 = dktX0_doctors_3 := dk_seg dksX0_doctors_2 24 rfl rfl
theorem dksX0_doctors_4 : cX0_doctors.data.toList.drop 93 = dktX0_doctors_4 := dk_seg dksX0_doctors_3 23 rfl rfl
theorem dksX0_doctors_5 : cX0_doctors.data.toList.drop 117 = dktX0_doctors_5 := dk_seg dksX0_doctors_4 24 rfl rfl
theorem dksX0_doctors_6 : cX0_doctors.data.toList.drop 141 = dktX0_doctors_6 := dk_seg dksX0_doctors_5 24 rfl rfl
theorem dksX0_doctors_7 : cX0_doctors.data.toList.drop 165 = dktX0_doctors_7 := dk_seg dksX0_doctors_6 24 rfl rfl
theorem dksX0_doctors_8 : cX0_doctors.data.toList.drop 187 = dktX0_doctors_8 := dk_seg dksX0_doctors_7 22 rfl rfl
theorem dksX0_doctors_9 : cX0_doctors.data.toList.drop 211 = dktX0_doctors_9 := dk_seg dksX0_doctors_8 24 rfl rfl
theorem dksX0_doctors_10 : cX0_doctors.data.toList.drop 233 = dktX0_doctors_10 := dk_seg dksX0_doctors_9 22 rfl rfl
theorem dksX0_doctors_11 : cX0_doctors.data.toList.drop 257 = dktX0_doctors_11 := dk_seg dksX0_doctors_10 24 rfl rfl
theorem dX0_doctors_0 : decode cX0_doctors 0 = .ok (.iload_n 1, 1) := dk_27 (dk_at dksX0_doctors_0 0 rfl rfl)
theorem dX0_doctors_1 : decode cX0_doctors 1 = .ok (.invokestatic 249, 3) := dk_184 0 249 (dk_at dksX0_doctors_0 1 rfl rfl)
theorem dX0_doctors_4 : decode cX0_doctors 4 = .ok (.ifCond .eq 21, 3) := dk_153 0 21 (dk_at dksX0_doctors_0 4 rfl rfl)
theorem dX0_doctors_7 : decode cX0_doctors 7 = .ok (.iload_n 2, 1) := dk_28 (dk_at dksX0_doctors_0 7 rfl rfl)
theorem dX0_doctors_8 : decode cX0_doctors 8 = .ok (.iconst 0, 1) := dk_3 (dk_at dksX0_doctors_0 8 rfl rfl)
theorem dX0_doctors_9 : decode cX0_doctors 9 = .ok (.sipush 400, 3) := dk_17 1 144 (dk_at dksX0_doctors_0 9 rfl rfl)
theorem dX0_doctors_12 : decode cX0_doctors 12 = .ok (.invokestatic 192, 3) := dk_184 0 192 (dk_at dksX0_doctors_0 12 rfl rfl)
theorem dX0_doctors_15 : decode cX0_doctors 15 = .ok (.ifCond .eq 10, 3) := dk_153 0 10 (dk_at dksX0_doctors_0 15 rfl rfl)
theorem dX0_doctors_18 : decode cX0_doctors 18 = .ok (.aload_n 0, 1) := dk_42 (dk_at dksX0_doctors_0 18 rfl rfl)
theorem dX0_doctors_19 : decode cX0_doctors 19 = .ok (.invokevirtual 183, 3) := dk_182 0 183 (dk_at dksX0_doctors_0 19 rfl rfl)
theorem dX0_doctors_22 : decode cX0_doctors 22 = .ok (.ifCond .ne 5, 3) := dk_154 0 5 (dk_at dksX0_doctors_1 0 rfl rfl)
theorem dX0_doctors_25 : decode cX0_doctors 25 = .ok (.iconst (-1), 1) := dk_2 (dk_at dksX0_doctors_1 3 rfl rfl)
theorem dX0_doctors_26 : decode cX0_doctors 26 = .ok (.ireturn, 1) := dk_172 (dk_at dksX0_doctors_1 4 rfl rfl)
theorem dX0_doctors_27 : decode cX0_doctors 27 = .ok (.iconst 0, 1) := dk_3 (dk_at dksX0_doctors_1 5 rfl rfl)
theorem dX0_doctors_28 : decode cX0_doctors 28 = .ok (.istore 4, 2) := dk_54 4 (dk_at dksX0_doctors_1 6 rfl rfl)
theorem dX0_doctors_30 : decode cX0_doctors 30 = .ok (.iload 4, 2) := dk_21 4 (dk_at dksX0_doctors_1 8 rfl rfl)
theorem dX0_doctors_32 : decode cX0_doctors 32 = .ok (.aload_n 0, 1) := dk_42 (dk_at dksX0_doctors_1 10 rfl rfl)
theorem dX0_doctors_33 : decode cX0_doctors 33 = .ok (.invokevirtual 183, 3) := dk_182 0 183 (dk_at dksX0_doctors_1 11 rfl rfl)
theorem dX0_doctors_36 : decode cX0_doctors 36 = .ok (.if_icmp .ge 114, 3) := dk_162 0 114 (dk_at dksX0_doctors_1 14 rfl rfl)
theorem dX0_doctors_39 : decode cX0_doctors 39 = .ok (.iconst 0, 1) := dk_3 (dk_at dksX0_doctors_1 17 rfl rfl)
theorem dX0_doctors_40 : decode cX0_doctors 40 = .ok (.istore 5, 2) := dk_54 5 (dk_at dksX0_doctors_1 18 rfl rfl)
theorem dX0_doctors_42 : decode cX0_doctors 42 = .ok (.iload 5, 2) := dk_21 5 (dk_at dksX0_doctors_1 20 rfl rfl)
theorem dX0_doctors_44 : decode cX0_doctors 44 = .ok (.bipush 24, 2) := dk_16 24 (dk_at dksX0_doctors_1 22 rfl rfl)
theorem dX0_doctors_46 : decode cX0_doctors 46 = .ok (.if_icmp .ge 98, 3) := dk_162 0 98 (dk_at dksX0_doctors_2 0 rfl rfl)
theorem dX0_doctors_49 : decode cX0_doctors 49 = .ok (.aload_n 0, 1) := dk_42 (dk_at dksX0_doctors_2 3 rfl rfl)
theorem dX0_doctors_50 : decode cX0_doctors 50 = .ok (.iload 4, 2) := dk_21 4 (dk_at dksX0_doctors_2 4 rfl rfl)
theorem dX0_doctors_52 : decode cX0_doctors 52 = .ok (.iload_n 1, 1) := dk_27 (dk_at dksX0_doctors_2 6 rfl rfl)
theorem dX0_doctors_53 : decode cX0_doctors 53 = .ok (.aload_n 0, 1) := dk_42 (dk_at dksX0_doctors_2 7 rfl rfl)
theorem dX0_doctors_54 : decode cX0_doctors 54 = .ok (.getfield 69, 3) := dk_180 0 69 (dk_at dksX0_doctors_2 8 rfl rfl)
theorem dX0_doctors_57 : decode cX0_doctors 57 = .ok (.getfield 259, 3) := dk_180 1 3 (dk_at dksX0_doctors_2 11 rfl rfl)
theorem dX0_doctors_60 : decode cX0_doctors 60 = .ok (.iload 5, 2) := dk_21 5 (dk_at dksX0_doctors_2 14 rfl rfl)
theorem dX0_doctors_62 : decode cX0_doctors 62 = .ok (.iadd, 1) := dk_96 (dk_at dksX0_doctors_2 16 rfl rfl)
theorem dX0_doctors_63 : decode cX0_doctors 63 = .ok (.invokevirtual 312, 3) := dk_182 1 56 (dk_at dksX0_doctors_2 17 rfl rfl)
theorem dX0_doctors_66 : decode cX0_doctors 66 = .ok (.aload_n 0, 1) := dk_42 (dk_at dksX0_doctors_2 20 rfl rfl)
theorem dX0_doctors_67 : decode cX0_doctors 67 = .ok (.getfield 109, 3) := dk_180 0 109 (dk_at dksX0_doctors_2 21 rfl rfl)
theorem dX0_doctors_70 : decode cX0_doctors 70 = .ok (.iload 4, 2) := dk_21 4 (dk_at dksX0_doctors_3 0 rfl rfl)
theorem dX0_doctors_72 : decode cX0_doctors 72 = .ok (.aaload, 1) := dk_50 (dk_at dksX0_doctors_3 2 rfl rfl)
theorem dX0_doctors_73 : decode cX0_doctors 73 = .ok (.iload 5, 2) := dk_21 5 (dk_at dksX0_doctors_3 3 rfl rfl)
theorem dX0_doctors_75 : decode cX0_doctors 75 = .ok (.iconst 0, 1) := dk_3 (dk_at dksX0_doctors_3 5 rfl rfl)
theorem dX0_doctors_76 : decode cX0_doctors 76 = .ok (.iastore, 1) := dk_79 (dk_at dksX0_doctors_3 6 rfl rfl)
theorem dX0_doctors_77 : decode cX0_doctors 77 = .ok (.iconst 0, 1) := dk_3 (dk_at dksX0_doctors_3 7 rfl rfl)
theorem dX0_doctors_78 : decode cX0_doctors 78 = .ok (.istore 6, 2) := dk_54 6 (dk_at dksX0_doctors_3 8 rfl rfl)
theorem dX0_doctors_80 : decode cX0_doctors 80 = .ok (.iload 6, 2) := dk_21 6 (dk_at dksX0_doctors_3 10 rfl rfl)
theorem dX0_doctors_82 : decode cX0_doctors 82 = .ok (.aload_n 0, 1) := dk_42 (dk_at dksX0_doctors_3 12 rfl rfl)
theorem dX0_doctors_83 : decode cX0_doctors 83 = .ok (.invokevirtual 183, 3) := dk_182 0 183 (dk_at dksX0_doctors_3 13 rfl rfl)
theorem dX0_doctors_86 : decode cX0_doctors 86 = .ok (.if_icmp .ge 52, 3) := dk_162 0 52 (dk_at dksX0_doctors_3 16 rfl rfl)
theorem dX0_doctors_89 : decode cX0_doctors 89 = .ok (.aload_n 0, 1) := dk_42 (dk_at dksX0_doctors_3 19 rfl rfl)
theorem dX0_doctors_90 : decode cX0_doctors 90 = .ok (.getfield 109, 3) := dk_180 0 109 (dk_at dksX0_doctors_3 20 rfl rfl)
theorem dX0_doctors_93 : decode cX0_doctors 93 = .ok (.iload 4, 2) := dk_21 4 (dk_at dksX0_doctors_4 0 rfl rfl)
theorem dX0_doctors_95 : decode cX0_doctors 95 = .ok (.aaload, 1) := dk_50 (dk_at dksX0_doctors_4 2 rfl rfl)
theorem dX0_doctors_96 : decode cX0_doctors 96 = .ok (.iload 5, 2) := dk_21 5 (dk_at dksX0_doctors_4 3 rfl rfl)
theorem dX0_doctors_98 : decode cX0_doctors 98 = .ok (.dup2, 1) := dk_92 (dk_at dksX0_doctors_4 5 rfl rfl)
theorem dX0_doctors_99 : decode cX0_doctors 99 = .ok (.iaload, 1) := dk_46 (dk_at dksX0_doctors_4 6 rfl rfl)
theorem dX0_doctors_100 : decode cX0_doctors 100 = .ok (.aload_n 0, 1) := dk_42 (dk_at dksX0_doctors_4 7 rfl rfl)
theorem dX0_doctors_101 : decode cX0_doctors 101 = .ok (.getfield 81, 3) := dk_180 0 81 (dk_at dksX0_doctors_4 8 rfl rfl)
theorem dX0_doctors_104 : decode cX0_doctors 104 = .ok (.iload 6, 2) := dk_21 6 (dk_at dksX0_doctors_4 11 rfl rfl)
theorem dX0_doctors_106 : decode cX0_doctors 106 = .ok (.iaload, 1) := dk_46 (dk_at dksX0_doctors_4 13 rfl rfl)
theorem dX0_doctors_107 : decode cX0_doctors 107 = .ok (.aload_n 0, 1) := dk_42 (dk_at dksX0_doctors_4 14 rfl rfl)
theorem dX0_doctors_108 : decode cX0_doctors 108 = .ok (.getfield 69, 3) := dk_180 0 69 (dk_at dksX0_doctors_4 15 rfl rfl)
theorem dX0_doctors_111 : decode cX0_doctors 111 = .ok (.getfield 259, 3) := dk_180 1 3 (dk_at dksX0_doctors_4 18 rfl rfl)
theorem dX0_doctors_114 : decode cX0_doctors 114 = .ok (.iload 5, 2) := dk_21 5 (dk_at dksX0_doctors_4 21 rfl rfl)
theorem dX0_doctors_116 : decode cX0_doctors 116 = .ok (.iadd, 1) := dk_96 (dk_at dksX0_doctors_4 23 rfl rfl)
theorem dX0_doctors_117 : decode cX0_doctors 117 = .ok (.iload_n 2, 1) := dk_28 (dk_at dksX0_doctors_5 0 rfl rfl)
theorem dX0_doctors_118 : decode cX0_doctors 118 = .ok (.iadd, 1) := dk_96 (dk_at dksX0_doctors_5 1 rfl rfl)
theorem dX0_doctors_119 : decode cX0_doctors 119 = .ok (.if_icmp .gt 10, 3) := dk_163 0 10 (dk_at dksX0_doctors_5 2 rfl rfl)
theorem dX0_doctors_122 : decode cX0_doctors 122 = .ok (.iconst 1, 1) := dk_4 (dk_at dksX0_doctors_5 5 rfl rfl)
theorem dX0_doctors_123 : decode cX0_doctors 123 = .ok (.iload 6, 2) := dk_21 6 (dk_at dksX0_doctors_5 6 rfl rfl)
theorem dX0_doctors_125 : decode cX0_doctors 125 = .ok (.ishl, 1) := dk_120 (dk_at dksX0_doctors_5 8 rfl rfl)
theorem dX0_doctors_126 : decode cX0_doctors 126 = .ok (.goto 4, 3) := dk_167 0 4 (dk_at dksX0_doctors_5 9 rfl rfl)
theorem dX0_doctors_129 : decode cX0_doctors 129 = .ok (.iconst 0, 1) := dk_3 (dk_at dksX0_doctors_5 12 rfl rfl)
theorem dX0_doctors_130 : decode cX0_doctors 130 = .ok (.ior, 1) := dk_128 (dk_at dksX0_doctors_5 13 rfl rfl)
theorem dX0_doctors_131 : decode cX0_doctors 131 = .ok (.iastore, 1) := dk_79 (dk_at dksX0_doctors_5 14 rfl rfl)
theorem dX0_doctors_132 : decode cX0_doctors 132 = .ok (.iinc 6 1, 3) := dk_132 6 1 (dk_at dksX0_doctors_5 15 rfl rfl)
theorem dX0_doctors_135 : decode cX0_doctors 135 = .ok (.goto (-55), 3) := dk_167 255 201 (dk_at dksX0_doctors_5 18 rfl rfl)
theorem dX0_doctors_138 : decode cX0_doctors 138 = .ok (.iinc 5 1, 3) := dk_132 5 1 (dk_at dksX0_doctors_5 21 rfl rfl)
theorem dX0_doctors_141 : decode cX0_doctors 141 = .ok (.goto (-99), 3) := dk_167 255 157 (dk_at dksX0_doctors_6 0 rfl rfl)
theorem dX0_doctors_144 : decode cX0_doctors 144 = .ok (.iinc 4 1, 3) := dk_132 4 1 (dk_at dksX0_doctors_6 3 rfl rfl)
theorem dX0_doctors_147 : decode cX0_doctors 147 = .ok (.goto (-117), 3) := dk_167 255 139 (dk_at dksX0_doctors_6 6 rfl rfl)
theorem dX0_doctors_150 : decode cX0_doctors 150 = .ok (.iconst (-1), 1) := dk_2 (dk_at dksX0_doctors_6 9 rfl rfl)
theorem dX0_doctors_151 : decode cX0_doctors 151 = .ok (.istore 4, 2) := dk_54 4 (dk_at dksX0_doctors_6 10 rfl rfl)
theorem dX0_doctors_153 : decode cX0_doctors 153 = .ok (.iconst 1, 1) := dk_4 (dk_at dksX0_doctors_6 12 rfl rfl)
theorem dX0_doctors_154 : decode cX0_doctors 154 = .ok (.istore 5, 2) := dk_54 5 (dk_at dksX0_doctors_6 13 rfl rfl)
theorem dX0_doctors_156 : decode cX0_doctors 156 = .ok (.iload 5, 2) := dk_21 5 (dk_at dksX0_doctors_6 15 rfl rfl)
theorem dX0_doctors_158 : decode cX0_doctors 158 = .ok (.iconst 3, 1) := dk_6 (dk_at dksX0_doctors_6 17 rfl rfl)
theorem dX0_doctors_159 : decode cX0_doctors 159 = .ok (.if_icmp .gt 25, 3) := dk_163 0 25 (dk_at dksX0_doctors_6 18 rfl rfl)
theorem dX0_doctors_162 : decode cX0_doctors 162 = .ok (.iload 4, 2) := dk_21 4 (dk_at dksX0_doctors_6 21 rfl rfl)
theorem dX0_doctors_164 : decode cX0_doctors 164 = .ok (.iconst (-1), 1) := dk_2 (dk_at dksX0_doctors_6 23 rfl rfl)
theorem dX0_doctors_165 : decode cX0_doctors 165 = .ok (.if_icmp .ne 19, 3) := dk_160 0 19 (dk_at dksX0_doctors_7 0 rfl rfl)
theorem dX0_doctors_168 : decode cX0_doctors 168 = .ok (.aload_n 0, 1) := dk_42 (dk_at dksX0_doctors_7 3 rfl rfl)
theorem dX0_doctors_169 : decode cX0_doctors 169 = .ok (.iload 5, 2) := dk_21 5 (dk_at dksX0_doctors_7 4 rfl rfl)
theorem dX0_doctors_171 : decode cX0_doctors 171 = .ok (.iconst 0, 1) := dk_3 (dk_at dksX0_doctors_7 6 rfl rfl)
theorem dX0_doctors_172 : decode cX0_doctors 172 = .ok (.iconst 0, 1) := dk_3 (dk_at dksX0_doctors_7 7 rfl rfl)
theorem dX0_doctors_173 : decode cX0_doctors 173 = .ok (.invokevirtual 361, 3) := dk_182 1 105 (dk_at dksX0_doctors_7 8 rfl rfl)
theorem dX0_doctors_176 : decode cX0_doctors 176 = .ok (.istore 4, 2) := dk_54 4 (dk_at dksX0_doctors_7 11 rfl rfl)
theorem dX0_doctors_178 : decode cX0_doctors 178 = .ok (.iinc 5 1, 3) := dk_132 5 1 (dk_at dksX0_doctors_7 13 rfl rfl)
theorem dX0_doctors_181 : decode cX0_doctors 181 = .ok (.goto (-25), 3) := dk_167 255 231 (dk_at dksX0_doctors_7 16 rfl rfl)
theorem dX0_doctors_184 : decode cX0_doctors 184 = .ok (.iload 4, 2) := dk_21 4 (dk_at dksX0_doctors_7 19 rfl rfl)
theorem dX0_doctors_186 : decode cX0_doctors 186 = .ok (.iconst (-1), 1) := dk_2 (dk_at dksX0_doctors_7 21 rfl rfl)
theorem dX0_doctors_187 : decode cX0_doctors 187 = .ok (.if_icmp .eq 8, 3) := dk_159 0 8 (dk_at dksX0_doctors_8 0 rfl rfl)
theorem dX0_doctors_190 : decode cX0_doctors 190 = .ok (.iload_n 3, 1) := dk_29 (dk_at dksX0_doctors_8 3 rfl rfl)
theorem dX0_doctors_191 : decode cX0_doctors 191 = .ok (.iconst (-1), 1) := dk_2 (dk_at dksX0_doctors_8 4 rfl rfl)
theorem dX0_doctors_192 : decode cX0_doctors 192 = .ok (.if_icmp .ne 19, 3) := dk_160 0 19 (dk_at dksX0_doctors_8 5 rfl rfl)
theorem dX0_doctors_195 : decode cX0_doctors 195 = .ok (.iload 4, 2) := dk_21 4 (dk_at dksX0_doctors_8 8 rfl rfl)
theorem dX0_doctors_197 : decode cX0_doctors 197 = .ok (.iconst (-1), 1) := dk_2 (dk_at dksX0_doctors_8 10 rfl rfl)
theorem dX0_doctors_198 : decode cX0_doctors 198 = .ok (.if_icmp .ne 7, 3) := dk_160 0 7 (dk_at dksX0_doctors_8 11 rfl rfl)
theorem dX0_doctors_201 : decode cX0_doctors 201 = .ok (.iconst (-1), 1) := dk_2 (dk_at dksX0_doctors_8 14 rfl rfl)
theorem dX0_doctors_202 : decode cX0_doctors 202 = .ok (.goto 8, 3) := dk_167 0 8 (dk_at dksX0_doctors_8 15 rfl rfl)
theorem dX0_doctors_205 : decode cX0_doctors 205 = .ok (.iload 4, 2) := dk_21 4 (dk_at dksX0_doctors_8 18 rfl rfl)
theorem dX0_doctors_207 : decode cX0_doctors 207 = .ok (.invokestatic 364, 3) := dk_184 1 108 (dk_at dksX0_doctors_8 20 rfl rfl)
theorem dX0_doctors_210 : decode cX0_doctors 210 = .ok (.ireturn, 1) := dk_172 (dk_at dksX0_doctors_8 23 rfl rfl)
theorem dX0_doctors_211 : decode cX0_doctors 211 = .ok (.iload_n 3, 1) := dk_29 (dk_at dksX0_doctors_9 0 rfl rfl)
theorem dX0_doctors_212 : decode cX0_doctors 212 = .ok (.istore 5, 2) := dk_54 5 (dk_at dksX0_doctors_9 1 rfl rfl)
theorem dX0_doctors_214 : decode cX0_doctors 214 = .ok (.iconst 0, 1) := dk_3 (dk_at dksX0_doctors_9 3 rfl rfl)
theorem dX0_doctors_215 : decode cX0_doctors 215 = .ok (.istore 6, 2) := dk_54 6 (dk_at dksX0_doctors_9 4 rfl rfl)
theorem dX0_doctors_217 : decode cX0_doctors 217 = .ok (.iload 6, 2) := dk_21 6 (dk_at dksX0_doctors_9 6 rfl rfl)
theorem dX0_doctors_219 : decode cX0_doctors 219 = .ok (.aload_n 0, 1) := dk_42 (dk_at dksX0_doctors_9 8 rfl rfl)
theorem dX0_doctors_220 : decode cX0_doctors 220 = .ok (.invokevirtual 183, 3) := dk_182 0 183 (dk_at dksX0_doctors_9 9 rfl rfl)
theorem dX0_doctors_223 : decode cX0_doctors 223 = .ok (.if_icmp .ge 33, 3) := dk_162 0 33 (dk_at dksX0_doctors_9 12 rfl rfl)
theorem dX0_doctors_226 : decode cX0_doctors 226 = .ok (.iload 4, 2) := dk_21 4 (dk_at dksX0_doctors_9 15 rfl rfl)
theorem dX0_doctors_228 : decode cX0_doctors 228 = .ok (.iload 6, 2) := dk_21 6 (dk_at dksX0_doctors_9 17 rfl rfl)
theorem dX0_doctors_230 : decode cX0_doctors 230 = .ok (.invokestatic 255, 3) := dk_184 0 255 (dk_at dksX0_doctors_9 19 rfl rfl)
theorem dX0_doctors_233 : decode cX0_doctors 233 = .ok (.ifCond .ne 6, 3) := dk_154 0 6 (dk_at dksX0_doctors_10 0 rfl rfl)
theorem dX0_doctors_236 : decode cX0_doctors 236 = .ok (.goto 14, 3) := dk_167 0 14 (dk_at dksX0_doctors_10 3 rfl rfl)
theorem dX0_doctors_239 : decode cX0_doctors 239 = .ok (.iload 5, 2) := dk_21 5 (dk_at dksX0_doctors_10 6 rfl rfl)
theorem dX0_doctors_241 : decode cX0_doctors 241 = .ok (.ifCond .ne 6, 3) := dk_154 0 6 (dk_at dksX0_doctors_10 8 rfl rfl)
theorem dX0_doctors_244 : decode cX0_doctors 244 = .ok (.iload 6, 2) := dk_21 6 (dk_at dksX0_doctors_10 11 rfl rfl)
theorem dX0_doctors_246 : decode cX0_doctors 246 = .ok (.ireturn, 1) := dk_172 (dk_at dksX0_doctors_10 13 rfl rfl)
theorem dX0_doctors_247 : decode cX0_doctors 247 = .ok (.iinc 5 (-1), 3) := dk_132 5 255 (dk_at dksX0_doctors_10 14 rfl rfl)
theorem dX0_doctors_250 : decode cX0_doctors 250 = .ok (.iinc 6 1, 3) := dk_132 6 1 (dk_at dksX0_doctors_10 17 rfl rfl)
theorem dX0_doctors_253 : decode cX0_doctors 253 = .ok (.goto (-36), 3) := dk_167 255 220 (dk_at dksX0_doctors_10 20 rfl rfl)
theorem dX0_doctors_256 : decode cX0_doctors 256 = .ok (.iconst (-1), 1) := dk_2 (dk_at dksX0_doctors_10 23 rfl rfl)
theorem dX0_doctors_257 : decode cX0_doctors 257 = .ok (.ireturn, 1) := dk_172 (dk_at dksX0_doctors_11 0 rfl rfl)
abbrev cX0_serving : ByteArray := prog_1_method_56_code
def yX0_serving : MethodName := ⟨RX0, "serving", "(III)I"⟩
def dkwX0_serving_2 : List UInt8 := [54, 5, 21, 5, 2, 159, 0, 6, 21, 5, 172, 132, 4, 1, 167, 255, 216, 2, 172]
abbrev dktX0_serving_2 : List UInt8 := dkwX0_serving_2 ++ []
def dkwX0_serving_1 : List UInt8 := [182, 0, 183, 162, 0, 37, 42, 27, 4, 100, 21, 4, 4, 96, 29, 4, 21, 4, 120, 128, 182, 1, 105]
abbrev dktX0_serving_1 : List UInt8 := dkwX0_serving_1 ++ dktX0_serving_2
def dkwX0_serving_0 : List UInt8 := [27, 154, 0, 17, 42, 29, 182, 1, 102, 153, 0, 7, 29, 167, 0, 4, 2, 172, 28, 54, 4, 21, 4, 42]
abbrev dktX0_serving_0 : List UInt8 := dkwX0_serving_0 ++ dktX0_serving_1
theorem dksX0_serving_0 : cX0_serving.data.toList.drop 0 = dktX0_serving_0 := by decide +kernel
theorem dksX0_serving_1 : cX0_serving.data.toList.drop 24 = dktX0_serving_1 := dk_seg dksX0_serving_0 24 rfl rfl
theorem dksX0_serving_2 : cX0_serving.data.toList.drop 47 = dktX0_serving_2 := dk_seg dksX0_serving_1 23 rfl rfl
theorem dX0_serving_0 : decode cX0_serving 0 = .ok (.iload_n 1, 1) := dk_27 (dk_at dksX0_serving_0 0 rfl rfl)
theorem dX0_serving_1 : decode cX0_serving 1 = .ok (.ifCond .ne 17, 3) := dk_154 0 17 (dk_at dksX0_serving_0 1 rfl rfl)
theorem dX0_serving_4 : decode cX0_serving 4 = .ok (.aload_n 0, 1) := dk_42 (dk_at dksX0_serving_0 4 rfl rfl)
theorem dX0_serving_5 : decode cX0_serving 5 = .ok (.iload_n 3, 1) := dk_29 (dk_at dksX0_serving_0 5 rfl rfl)
theorem dX0_serving_6 : decode cX0_serving 6 = .ok (.invokevirtual 358, 3) := dk_182 1 102 (dk_at dksX0_serving_0 6 rfl rfl)
theorem dX0_serving_9 : decode cX0_serving 9 = .ok (.ifCond .eq 7, 3) := dk_153 0 7 (dk_at dksX0_serving_0 9 rfl rfl)
theorem dX0_serving_12 : decode cX0_serving 12 = .ok (.iload_n 3, 1) := dk_29 (dk_at dksX0_serving_0 12 rfl rfl)
theorem dX0_serving_13 : decode cX0_serving 13 = .ok (.goto 4, 3) := dk_167 0 4 (dk_at dksX0_serving_0 13 rfl rfl)
theorem dX0_serving_16 : decode cX0_serving 16 = .ok (.iconst (-1), 1) := dk_2 (dk_at dksX0_serving_0 16 rfl rfl)
theorem dX0_serving_17 : decode cX0_serving 17 = .ok (.ireturn, 1) := dk_172 (dk_at dksX0_serving_0 17 rfl rfl)
theorem dX0_serving_18 : decode cX0_serving 18 = .ok (.iload_n 2, 1) := dk_28 (dk_at dksX0_serving_0 18 rfl rfl)
theorem dX0_serving_19 : decode cX0_serving 19 = .ok (.istore 4, 2) := dk_54 4 (dk_at dksX0_serving_0 19 rfl rfl)
theorem dX0_serving_21 : decode cX0_serving 21 = .ok (.iload 4, 2) := dk_21 4 (dk_at dksX0_serving_0 21 rfl rfl)
theorem dX0_serving_23 : decode cX0_serving 23 = .ok (.aload_n 0, 1) := dk_42 (dk_at dksX0_serving_0 23 rfl rfl)
theorem dX0_serving_24 : decode cX0_serving 24 = .ok (.invokevirtual 183, 3) := dk_182 0 183 (dk_at dksX0_serving_1 0 rfl rfl)
theorem dX0_serving_27 : decode cX0_serving 27 = .ok (.if_icmp .ge 37, 3) := dk_162 0 37 (dk_at dksX0_serving_1 3 rfl rfl)
theorem dX0_serving_30 : decode cX0_serving 30 = .ok (.aload_n 0, 1) := dk_42 (dk_at dksX0_serving_1 6 rfl rfl)
theorem dX0_serving_31 : decode cX0_serving 31 = .ok (.iload_n 1, 1) := dk_27 (dk_at dksX0_serving_1 7 rfl rfl)
theorem dX0_serving_32 : decode cX0_serving 32 = .ok (.iconst 1, 1) := dk_4 (dk_at dksX0_serving_1 8 rfl rfl)
theorem dX0_serving_33 : decode cX0_serving 33 = .ok (.isub, 1) := dk_100 (dk_at dksX0_serving_1 9 rfl rfl)
theorem dX0_serving_34 : decode cX0_serving 34 = .ok (.iload 4, 2) := dk_21 4 (dk_at dksX0_serving_1 10 rfl rfl)
theorem dX0_serving_36 : decode cX0_serving 36 = .ok (.iconst 1, 1) := dk_4 (dk_at dksX0_serving_1 12 rfl rfl)
theorem dX0_serving_37 : decode cX0_serving 37 = .ok (.iadd, 1) := dk_96 (dk_at dksX0_serving_1 13 rfl rfl)
theorem dX0_serving_38 : decode cX0_serving 38 = .ok (.iload_n 3, 1) := dk_29 (dk_at dksX0_serving_1 14 rfl rfl)
theorem dX0_serving_39 : decode cX0_serving 39 = .ok (.iconst 1, 1) := dk_4 (dk_at dksX0_serving_1 15 rfl rfl)
theorem dX0_serving_40 : decode cX0_serving 40 = .ok (.iload 4, 2) := dk_21 4 (dk_at dksX0_serving_1 16 rfl rfl)
theorem dX0_serving_42 : decode cX0_serving 42 = .ok (.ishl, 1) := dk_120 (dk_at dksX0_serving_1 18 rfl rfl)
theorem dX0_serving_43 : decode cX0_serving 43 = .ok (.ior, 1) := dk_128 (dk_at dksX0_serving_1 19 rfl rfl)
theorem dX0_serving_44 : decode cX0_serving 44 = .ok (.invokevirtual 361, 3) := dk_182 1 105 (dk_at dksX0_serving_1 20 rfl rfl)
theorem dX0_serving_47 : decode cX0_serving 47 = .ok (.istore 5, 2) := dk_54 5 (dk_at dksX0_serving_2 0 rfl rfl)
theorem dX0_serving_49 : decode cX0_serving 49 = .ok (.iload 5, 2) := dk_21 5 (dk_at dksX0_serving_2 2 rfl rfl)
theorem dX0_serving_51 : decode cX0_serving 51 = .ok (.iconst (-1), 1) := dk_2 (dk_at dksX0_serving_2 4 rfl rfl)
theorem dX0_serving_52 : decode cX0_serving 52 = .ok (.if_icmp .eq 6, 3) := dk_159 0 6 (dk_at dksX0_serving_2 5 rfl rfl)
theorem dX0_serving_55 : decode cX0_serving 55 = .ok (.iload 5, 2) := dk_21 5 (dk_at dksX0_serving_2 8 rfl rfl)
theorem dX0_serving_57 : decode cX0_serving 57 = .ok (.ireturn, 1) := dk_172 (dk_at dksX0_serving_2 10 rfl rfl)
theorem dX0_serving_58 : decode cX0_serving 58 = .ok (.iinc 4 1, 3) := dk_132 4 1 (dk_at dksX0_serving_2 11 rfl rfl)
theorem dX0_serving_61 : decode cX0_serving 61 = .ok (.goto (-40), 3) := dk_167 255 216 (dk_at dksX0_serving_2 14 rfl rfl)
theorem dX0_serving_64 : decode cX0_serving 64 = .ok (.iconst (-1), 1) := dk_2 (dk_at dksX0_serving_2 17 rfl rfl)
theorem dX0_serving_65 : decode cX0_serving 65 = .ok (.ireturn, 1) := dk_172 (dk_at dksX0_serving_2 18 rfl rfl)
abbrev cX0_areServed : ByteArray := prog_1_method_55_code
def yX0_areServed : MethodName := ⟨RX0, "areServed", "(I)Z"⟩
def dkwX0_areServed_3 : List UInt8 := [167, 255, 188, 4, 172]
abbrev dktX0_areServed_3 : List UInt8 := dkwX0_areServed_3 ++ []
def dkwX0_areServed_2 : List UInt8 := [132, 4, 1, 167, 255, 219, 29, 4, 42, 182, 0, 183, 120, 4, 100, 159, 0, 5, 3, 172, 132, 2, 1]
abbrev dktX0_areServed_2 : List UInt8 := dkwX0_areServed_2 ++ dktX0_areServed_3
def dkwX0_areServed_1 : List UInt8 := [21, 4, 184, 0, 255, 153, 0, 15, 42, 180, 0, 109, 21, 4, 50, 28, 46, 167, 0, 4, 3, 128, 62]
abbrev dktX0_areServed_1 : List UInt8 := dkwX0_areServed_1 ++ dktX0_areServed_2
def dkwX0_areServed_0 : List UInt8 := [3, 61, 28, 16, 24, 162, 0, 68, 3, 62, 3, 54, 4, 21, 4, 42, 182, 0, 183, 162, 0, 34, 29, 27]
abbrev dktX0_areServed_0 : List UInt8 := dkwX0_areServed_0 ++ dktX0_areServed_1
theorem dksX0_areServed_0 : cX0_areServed.data.toList.drop 0 = dktX0_areServed_0 := by decide +kernel
theorem dksX0_areServed_1 : cX0_areServed.data.toList.drop 24 = dktX0_areServed_1 := dk_seg dksX0_areServed_0 24 rfl rfl
theorem dksX0_areServed_2 : cX0_areServed.data.toList.drop 47 = dktX0_areServed_2 := dk_seg dksX0_areServed_1 23 rfl rfl
theorem dksX0_areServed_3 : cX0_areServed.data.toList.drop 70 = dktX0_areServed_3 := dk_seg dksX0_areServed_2 23 rfl rfl
theorem dX0_areServed_0 : decode cX0_areServed 0 = .ok (.iconst 0, 1) := dk_3 (dk_at dksX0_areServed_0 0 rfl rfl)
theorem dX0_areServed_1 : decode cX0_areServed 1 = .ok (.istore_n 2, 1) := dk_61 (dk_at dksX0_areServed_0 1 rfl rfl)
theorem dX0_areServed_2 : decode cX0_areServed 2 = .ok (.iload_n 2, 1) := dk_28 (dk_at dksX0_areServed_0 2 rfl rfl)
theorem dX0_areServed_3 : decode cX0_areServed 3 = .ok (.bipush 24, 2) := dk_16 24 (dk_at dksX0_areServed_0 3 rfl rfl)
theorem dX0_areServed_5 : decode cX0_areServed 5 = .ok (.if_icmp .ge 68, 3) := dk_162 0 68 (dk_at dksX0_areServed_0 5 rfl rfl)
theorem dX0_areServed_8 : decode cX0_areServed 8 = .ok (.iconst 0, 1) := dk_3 (dk_at dksX0_areServed_0 8 rfl rfl)
theorem dX0_areServed_9 : decode cX0_areServed 9 = .ok (.istore_n 3, 1) := dk_62 (dk_at dksX0_areServed_0 9 rfl rfl)
theorem dX0_areServed_10 : decode cX0_areServed 10 = .ok (.iconst 0, 1) := dk_3 (dk_at dksX0_areServed_0 10 rfl rfl)
theorem dX0_areServed_11 : decode cX0_areServed 11 = .ok (.istore 4, 2) := dk_54 4 (dk_at dksX0_areServed_0 11 rfl rfl)
theorem dX0_areServed_13 : decode cX0_areServed 13 = .ok (.iload 4, 2) := dk_21 4 (dk_at dksX0_areServed_0 13 rfl rfl)
theorem dX0_areServed_15 : decode cX0_areServed 15 = .ok (.aload_n 0, 1) := dk_42 (dk_at dksX0_areServed_0 15 rfl rfl)
theorem dX0_areServed_16 : decode cX0_areServed 16 = .ok (.invokevirtual 183, 3) := dk_182 0 183 (dk_at dksX0_areServed_0 16 rfl rfl)
theorem dX0_areServed_19 : decode cX0_areServed 19 = .ok (.if_icmp .ge 34, 3) := dk_162 0 34 (dk_at dksX0_areServed_0 19 rfl rfl)
theorem dX0_areServed_22 : decode cX0_areServed 22 = .ok (.iload_n 3, 1) := dk_29 (dk_at dksX0_areServed_0 22 rfl rfl)
theorem dX0_areServed_23 : decode cX0_areServed 23 = .ok (.iload_n 1, 1) := dk_27 (dk_at dksX0_areServed_0 23 rfl rfl)
theorem dX0_areServed_24 : decode cX0_areServed 24 = .ok (.iload 4, 2) := dk_21 4 (dk_at dksX0_areServed_1 0 rfl rfl)
theorem dX0_areServed_26 : decode cX0_areServed 26 = .ok (.invokestatic 255, 3) := dk_184 0 255 (dk_at dksX0_areServed_1 2 rfl rfl)
theorem dX0_areServed_29 : decode cX0_areServed 29 = .ok (.ifCond .eq 15, 3) := dk_153 0 15 (dk_at dksX0_areServed_1 5 rfl rfl)
theorem dX0_areServed_32 : decode cX0_areServed 32 = .ok (.aload_n 0, 1) := dk_42 (dk_at dksX0_areServed_1 8 rfl rfl)
theorem dX0_areServed_33 : decode cX0_areServed 33 = .ok (.getfield 109, 3) := dk_180 0 109 (dk_at dksX0_areServed_1 9 rfl rfl)
theorem dX0_areServed_36 : decode cX0_areServed 36 = .ok (.iload 4, 2) := dk_21 4 (dk_at dksX0_areServed_1 12 rfl rfl)
theorem dX0_areServed_38 : decode cX0_areServed 38 = .ok (.aaload, 1) := dk_50 (dk_at dksX0_areServed_1 14 rfl rfl)
theorem dX0_areServed_39 : decode cX0_areServed 39 = .ok (.iload_n 2, 1) := dk_28 (dk_at dksX0_areServed_1 15 rfl rfl)
theorem dX0_areServed_40 : decode cX0_areServed 40 = .ok (.iaload, 1) := dk_46 (dk_at dksX0_areServed_1 16 rfl rfl)
theorem dX0_areServed_41 : decode cX0_areServed 41 = .ok (.goto 4, 3) := dk_167 0 4 (dk_at dksX0_areServed_1 17 rfl rfl)
theorem dX0_areServed_44 : decode cX0_areServed 44 = .ok (.iconst 0, 1) := dk_3 (dk_at dksX0_areServed_1 20 rfl rfl)
theorem dX0_areServed_45 : decode cX0_areServed 45 = .ok (.ior, 1) := dk_128 (dk_at dksX0_areServed_1 21 rfl rfl)
theorem dX0_areServed_46 : decode cX0_areServed 46 = .ok (.istore_n 3, 1) := dk_62 (dk_at dksX0_areServed_1 22 rfl rfl)
theorem dX0_areServed_47 : decode cX0_areServed 47 = .ok (.iinc 4 1, 3) := dk_132 4 1 (dk_at dksX0_areServed_2 0 rfl rfl)
theorem dX0_areServed_50 : decode cX0_areServed 50 = .ok (.goto (-37), 3) := dk_167 255 219 (dk_at dksX0_areServed_2 3 rfl rfl)
theorem dX0_areServed_53 : decode cX0_areServed 53 = .ok (.iload_n 3, 1) := dk_29 (dk_at dksX0_areServed_2 6 rfl rfl)
theorem dX0_areServed_54 : decode cX0_areServed 54 = .ok (.iconst 1, 1) := dk_4 (dk_at dksX0_areServed_2 7 rfl rfl)
theorem dX0_areServed_55 : decode cX0_areServed 55 = .ok (.aload_n 0, 1) := dk_42 (dk_at dksX0_areServed_2 8 rfl rfl)
theorem dX0_areServed_56 : decode cX0_areServed 56 = .ok (.invokevirtual 183, 3) := dk_182 0 183 (dk_at dksX0_areServed_2 9 rfl rfl)
theorem dX0_areServed_59 : decode cX0_areServed 59 = .ok (.ishl, 1) := dk_120 (dk_at dksX0_areServed_2 12 rfl rfl)
theorem dX0_areServed_60 : decode cX0_areServed 60 = .ok (.iconst 1, 1) := dk_4 (dk_at dksX0_areServed_2 13 rfl rfl)
theorem dX0_areServed_61 : decode cX0_areServed 61 = .ok (.isub, 1) := dk_100 (dk_at dksX0_areServed_2 14 rfl rfl)
theorem dX0_areServed_62 : decode cX0_areServed 62 = .ok (.if_icmp .eq 5, 3) := dk_159 0 5 (dk_at dksX0_areServed_2 15 rfl rfl)
theorem dX0_areServed_65 : decode cX0_areServed 65 = .ok (.iconst 0, 1) := dk_3 (dk_at dksX0_areServed_2 18 rfl rfl)
theorem dX0_areServed_66 : decode cX0_areServed 66 = .ok (.ireturn, 1) := dk_172 (dk_at dksX0_areServed_2 19 rfl rfl)
theorem dX0_areServed_67 : decode cX0_areServed 67 = .ok (.iinc 2 1, 3) := dk_132 2 1 (dk_at dksX0_areServed_2 20 rfl rfl)
theorem dX0_areServed_70 : decode cX0_areServed 70 = .ok (.goto (-68), 3) := dk_167 255 188 (dk_at dksX0_areServed_3 0 rfl rfl)
theorem dX0_areServed_73 : decode cX0_areServed 73 = .ok (.iconst 1, 1) := dk_4 (dk_at dksX0_areServed_3 3 rfl rfl)
theorem dX0_areServed_74 : decode cX0_areServed 74 = .ok (.ireturn, 1) := dk_172 (dk_at dksX0_areServed_3 4 rfl rfl)
abbrev cX0_undo : ByteArray := prog_1_method_59_code
def yX0_undo : MethodName := ⟨RX0, "undo", "()Z"⟩
def dkwX0_undo_2 : List UInt8 := [4, 172]
abbrev dktX0_undo_2 : List UInt8 := dkwX0_undo_2 ++ []
def dkwX0_undo_1 : List UInt8 := [180, 0, 159, 4, 100, 181, 0, 159, 42, 180, 0, 69, 42, 180, 0, 112, 42, 180, 0, 159, 50, 182, 1, 113]
abbrev dktX0_undo_1 : List UInt8 := dkwX0_undo_1 ++ dktX0_undo_2
def dkwX0_undo_0 : List UInt8 := [42, 180, 0, 159, 154, 0, 17, 42, 6, 182, 0, 129, 155, 0, 7, 4, 167, 0, 4, 3, 172, 42, 89]
abbrev dktX0_undo_0 : List UInt8 := dkwX0_undo_0 ++ dktX0_undo_1
theorem dksX0_undo_0 : cX0_undo.data.toList.drop 0 = dktX0_undo_0 := by decide +kernel
theorem dksX0_undo_1 : cX0_undo.data.toList.drop 23 = dktX0_undo_1 := dk_seg dksX0_undo_0 23 rfl rfl
theorem dksX0_undo_2 : cX0_undo.data.toList.drop 47 = dktX0_undo_2 := dk_seg dksX0_undo_1 24 rfl rfl
theorem dX0_undo_0 : decode cX0_undo 0 = .ok (.aload_n 0, 1) := dk_42 (dk_at dksX0_undo_0 0 rfl rfl)
theorem dX0_undo_1 : decode cX0_undo 1 = .ok (.getfield 159, 3) := dk_180 0 159 (dk_at dksX0_undo_0 1 rfl rfl)
theorem dX0_undo_4 : decode cX0_undo 4 = .ok (.ifCond .ne 17, 3) := dk_154 0 17 (dk_at dksX0_undo_0 4 rfl rfl)
theorem dX0_undo_7 : decode cX0_undo 7 = .ok (.aload_n 0, 1) := dk_42 (dk_at dksX0_undo_0 7 rfl rfl)
theorem dX0_undo_8 : decode cX0_undo 8 = .ok (.iconst 3, 1) := dk_6 (dk_at dksX0_undo_0 8 rfl rfl)
theorem dX0_undo_9 : decode cX0_undo 9 = .ok (.invokevirtual 129, 3) := dk_182 0 129 (dk_at dksX0_undo_0 9 rfl rfl)
theorem dX0_undo_12 : decode cX0_undo 12 = .ok (.ifCond .lt 7, 3) := dk_155 0 7 (dk_at dksX0_undo_0 12 rfl rfl)
theorem dX0_undo_15 : decode cX0_undo 15 = .ok (.iconst 1, 1) := dk_4 (dk_at dksX0_undo_0 15 rfl rfl)
theorem dX0_undo_16 : decode cX0_undo 16 = .ok (.goto 4, 3) := dk_167 0 4 (dk_at dksX0_undo_0 16 rfl rfl)
theorem dX0_undo_19 : decode cX0_undo 19 = .ok (.iconst 0, 1) := dk_3 (dk_at dksX0_undo_0 19 rfl rfl)
theorem dX0_undo_20 : decode cX0_undo 20 = .ok (.ireturn, 1) := dk_172 (dk_at dksX0_undo_0 20 rfl rfl)
theorem dX0_undo_21 : decode cX0_undo 21 = .ok (.aload_n 0, 1) := dk_42 (dk_at dksX0_undo_0 21 rfl rfl)
theorem dX0_undo_22 : decode cX0_undo 22 = .ok (.dup, 1) := dk_89 (dk_at dksX0_undo_0 22 rfl rfl)
theorem dX0_undo_23 : decode cX0_undo 23 = .ok (.getfield 159, 3) := dk_180 0 159 (dk_at dksX0_undo_1 0 rfl rfl)
theorem dX0_undo_26 : decode cX0_undo 26 = .ok (.iconst 1, 1) := dk_4 (dk_at dksX0_undo_1 3 rfl rfl)
theorem dX0_undo_27 : decode cX0_undo 27 = .ok (.isub, 1) := dk_100 (dk_at dksX0_undo_1 4 rfl rfl)
theorem dX0_undo_28 : decode cX0_undo 28 = .ok (.putfield 159, 3) := dk_181 0 159 (dk_at dksX0_undo_1 5 rfl rfl)
theorem dX0_undo_31 : decode cX0_undo 31 = .ok (.aload_n 0, 1) := dk_42 (dk_at dksX0_undo_1 8 rfl rfl)
theorem dX0_undo_32 : decode cX0_undo 32 = .ok (.getfield 69, 3) := dk_180 0 69 (dk_at dksX0_undo_1 9 rfl rfl)
theorem dX0_undo_35 : decode cX0_undo 35 = .ok (.aload_n 0, 1) := dk_42 (dk_at dksX0_undo_1 12 rfl rfl)
theorem dX0_undo_36 : decode cX0_undo 36 = .ok (.getfield 112, 3) := dk_180 0 112 (dk_at dksX0_undo_1 13 rfl rfl)
theorem dX0_undo_39 : decode cX0_undo 39 = .ok (.aload_n 0, 1) := dk_42 (dk_at dksX0_undo_1 16 rfl rfl)
theorem dX0_undo_40 : decode cX0_undo 40 = .ok (.getfield 159, 3) := dk_180 0 159 (dk_at dksX0_undo_1 17 rfl rfl)
theorem dX0_undo_43 : decode cX0_undo 43 = .ok (.aaload, 1) := dk_50 (dk_at dksX0_undo_1 20 rfl rfl)
theorem dX0_undo_44 : decode cX0_undo 44 = .ok (.invokevirtual 369, 3) := dk_182 1 113 (dk_at dksX0_undo_1 21 rfl rfl)
theorem dX0_undo_47 : decode cX0_undo 47 = .ok (.iconst 1, 1) := dk_4 (dk_at dksX0_undo_2 0 rfl rfl)
theorem dX0_undo_48 : decode cX0_undo 48 = .ok (.ireturn, 1) := dk_172 (dk_at dksX0_undo_2 1 rfl rfl)
abbrev cX0_go : ByteArray := prog_1_method_60_code
def yX0_go : MethodName := ⟨RX0, "go", "(I)I"⟩
def dkwX0_go_2 : List UInt8 := [181, 1, 3, 42, 180, 0, 69, 180, 1, 3, 172]
abbrev dktX0_go_2 : List UInt8 := dkwX0_go_2 ++ []
def dkwX0_go_1 : List UInt8 := [164, 0, 9, 42, 5, 182, 0, 129, 172, 42, 182, 1, 117, 42, 180, 0, 69, 89, 180, 1, 3, 27, 96]
abbrev dktX0_go_1 : List UInt8 := dkwX0_go_1 ++ dktX0_go_2
def dkwX0_go_0 : List UInt8 := [27, 4, 17, 1, 244, 184, 0, 192, 153, 0, 18, 42, 180, 0, 69, 180, 1, 3, 27, 96, 17, 39, 15]
abbrev dktX0_go_0 : List UInt8 := dkwX0_go_0 ++ dktX0_go_1
theorem dksX0_go_0 : cX0_go.data.toList.drop 0 = dktX0_go_0 := by decide +kernel
theorem dksX0_go_1 : cX0_go.data.toList.drop 23 = dktX0_go_1 := dk_seg dksX0_go_0 23 rfl rfl
theorem dksX0_go_2 : cX0_go.data.toList.drop 46 = dktX0_go_2 := dk_seg dksX0_go_1 23 rfl rfl
theorem dX0_go_0 : decode cX0_go 0 = .ok (.iload_n 1, 1) := dk_27 (dk_at dksX0_go_0 0 rfl rfl)
theorem dX0_go_1 : decode cX0_go 1 = .ok (.iconst 1, 1) := dk_4 (dk_at dksX0_go_0 1 rfl rfl)
theorem dX0_go_2 : decode cX0_go 2 = .ok (.sipush 500, 3) := dk_17 1 244 (dk_at dksX0_go_0 2 rfl rfl)
theorem dX0_go_5 : decode cX0_go 5 = .ok (.invokestatic 192, 3) := dk_184 0 192 (dk_at dksX0_go_0 5 rfl rfl)
theorem dX0_go_8 : decode cX0_go 8 = .ok (.ifCond .eq 18, 3) := dk_153 0 18 (dk_at dksX0_go_0 8 rfl rfl)
theorem dX0_go_11 : decode cX0_go 11 = .ok (.aload_n 0, 1) := dk_42 (dk_at dksX0_go_0 11 rfl rfl)
theorem dX0_go_12 : decode cX0_go 12 = .ok (.getfield 69, 3) := dk_180 0 69 (dk_at dksX0_go_0 12 rfl rfl)
theorem dX0_go_15 : decode cX0_go 15 = .ok (.getfield 259, 3) := dk_180 1 3 (dk_at dksX0_go_0 15 rfl rfl)
theorem dX0_go_18 : decode cX0_go 18 = .ok (.iload_n 1, 1) := dk_27 (dk_at dksX0_go_0 18 rfl rfl)
theorem dX0_go_19 : decode cX0_go 19 = .ok (.iadd, 1) := dk_96 (dk_at dksX0_go_0 19 rfl rfl)
theorem dX0_go_20 : decode cX0_go 20 = .ok (.sipush 9999, 3) := dk_17 39 15 (dk_at dksX0_go_0 20 rfl rfl)
theorem dX0_go_23 : decode cX0_go 23 = .ok (.if_icmp .le 9, 3) := dk_164 0 9 (dk_at dksX0_go_1 0 rfl rfl)
theorem dX0_go_26 : decode cX0_go 26 = .ok (.aload_n 0, 1) := dk_42 (dk_at dksX0_go_1 3 rfl rfl)
theorem dX0_go_27 : decode cX0_go 27 = .ok (.iconst 2, 1) := dk_5 (dk_at dksX0_go_1 4 rfl rfl)
theorem dX0_go_28 : decode cX0_go 28 = .ok (.invokevirtual 129, 3) := dk_182 0 129 (dk_at dksX0_go_1 5 rfl rfl)
theorem dX0_go_31 : decode cX0_go 31 = .ok (.ireturn, 1) := dk_172 (dk_at dksX0_go_1 8 rfl rfl)
theorem dX0_go_32 : decode cX0_go 32 = .ok (.aload_n 0, 1) := dk_42 (dk_at dksX0_go_1 9 rfl rfl)
theorem dX0_go_33 : decode cX0_go 33 = .ok (.invokevirtual 373, 3) := dk_182 1 117 (dk_at dksX0_go_1 10 rfl rfl)
theorem dX0_go_36 : decode cX0_go 36 = .ok (.aload_n 0, 1) := dk_42 (dk_at dksX0_go_1 13 rfl rfl)
theorem dX0_go_37 : decode cX0_go 37 = .ok (.getfield 69, 3) := dk_180 0 69 (dk_at dksX0_go_1 14 rfl rfl)
theorem dX0_go_40 : decode cX0_go 40 = .ok (.dup, 1) := dk_89 (dk_at dksX0_go_1 17 rfl rfl)
theorem dX0_go_41 : decode cX0_go 41 = .ok (.getfield 259, 3) := dk_180 1 3 (dk_at dksX0_go_1 18 rfl rfl)
theorem dX0_go_44 : decode cX0_go 44 = .ok (.iload_n 1, 1) := dk_27 (dk_at dksX0_go_1 21 rfl rfl)
theorem dX0_go_45 : decode cX0_go 45 = .ok (.iadd, 1) := dk_96 (dk_at dksX0_go_1 22 rfl rfl)
theorem dX0_go_46 : decode cX0_go 46 = .ok (.putfield 259, 3) := dk_181 1 3 (dk_at dksX0_go_2 0 rfl rfl)
theorem dX0_go_49 : decode cX0_go 49 = .ok (.aload_n 0, 1) := dk_42 (dk_at dksX0_go_2 3 rfl rfl)
theorem dX0_go_50 : decode cX0_go 50 = .ok (.getfield 69, 3) := dk_180 0 69 (dk_at dksX0_go_2 4 rfl rfl)
theorem dX0_go_53 : decode cX0_go 53 = .ok (.getfield 259, 3) := dk_180 1 3 (dk_at dksX0_go_2 7 rfl rfl)
theorem dX0_go_56 : decode cX0_go 56 = .ok (.ireturn, 1) := dk_172 (dk_at dksX0_go_2 10 rfl rfl)
abbrev cX0_keeps : ByteArray := prog_1_method_58_code
def yX0_keeps : MethodName := ⟨RX0, "keeps", "()V"⟩
def dkwX0_keeps_3 : List UInt8 := [180, 0, 69, 182, 1, 113, 42, 89, 180, 0, 159, 4, 96, 181, 0, 159, 177]
abbrev dktX0_keeps_3 : List UInt8 := dkwX0_keeps_3 ++ []
def dkwX0_keeps_2 : List UInt8 := [16, 19, 43, 83, 42, 89, 180, 0, 159, 4, 100, 181, 0, 159, 42, 180, 0, 112, 42, 180, 0, 159, 50, 42]
abbrev dktX0_keeps_2 : List UInt8 := dkwX0_keeps_2 ++ dktX0_keeps_3
def dkwX0_keeps_1 : List UInt8 := [42, 180, 0, 112, 28, 4, 100, 42, 180, 0, 112, 28, 50, 83, 132, 2, 1, 167, 255, 233, 42, 180, 0, 112]
abbrev dktX0_keeps_1 : List UInt8 := dkwX0_keeps_1 ++ dktX0_keeps_2
def dkwX0_keeps_0 : List UInt8 := [42, 180, 0, 159, 16, 20, 160, 0, 56, 42, 180, 0, 112, 3, 50, 76, 4, 61, 28, 16, 20, 162, 0, 23]
abbrev dktX0_keeps_0 : List UInt8 := dkwX0_keeps_0 ++ dktX0_keeps_1
theorem dksX0_keeps_0 : cX0_keeps.data.toList.drop 0 = dktX0_keeps_0 := by decide +kernel
theorem dksX0_keeps_1 : cX0_keeps.data.toList.drop 24 = dktX0_keeps_1 := dk_seg dksX0_keeps_0 24 rfl rfl
theorem dksX0_keeps_2 : cX0_keeps.data.toList.drop 48 = dktX0_keeps_2 := dk_seg dksX0_keeps_1 24 rfl rfl
theorem dksX0_keeps_3 : cX0_keeps.data.toList.drop 72 = dktX0_keeps_3 := dk_seg dksX0_keeps_2 24 rfl rfl
theorem dX0_keeps_0 : decode cX0_keeps 0 = .ok (.aload_n 0, 1) := dk_42 (dk_at dksX0_keeps_0 0 rfl rfl)
theorem dX0_keeps_1 : decode cX0_keeps 1 = .ok (.getfield 159, 3) := dk_180 0 159 (dk_at dksX0_keeps_0 1 rfl rfl)
theorem dX0_keeps_4 : decode cX0_keeps 4 = .ok (.bipush 20, 2) := dk_16 20 (dk_at dksX0_keeps_0 4 rfl rfl)
theorem dX0_keeps_6 : decode cX0_keeps 6 = .ok (.if_icmp .ne 56, 3) := dk_160 0 56 (dk_at dksX0_keeps_0 6 rfl rfl)
theorem dX0_keeps_9 : decode cX0_keeps 9 = .ok (.aload_n 0, 1) := dk_42 (dk_at dksX0_keeps_0 9 rfl rfl)
theorem dX0_keeps_10 : decode cX0_keeps 10 = .ok (.getfield 112, 3) := dk_180 0 112 (dk_at dksX0_keeps_0 10 rfl rfl)
theorem dX0_keeps_13 : decode cX0_keeps 13 = .ok (.iconst 0, 1) := dk_3 (dk_at dksX0_keeps_0 13 rfl rfl)
theorem dX0_keeps_14 : decode cX0_keeps 14 = .ok (.aaload, 1) := dk_50 (dk_at dksX0_keeps_0 14 rfl rfl)
theorem dX0_keeps_15 : decode cX0_keeps 15 = .ok (.astore_n 1, 1) := dk_76 (dk_at dksX0_keeps_0 15 rfl rfl)
theorem dX0_keeps_16 : decode cX0_keeps 16 = .ok (.iconst 1, 1) := dk_4 (dk_at dksX0_keeps_0 16 rfl rfl)
theorem dX0_keeps_17 : decode cX0_keeps 17 = .ok (.istore_n 2, 1) := dk_61 (dk_at dksX0_keeps_0 17 rfl rfl)
theorem dX0_keeps_18 : decode cX0_keeps 18 = .ok (.iload_n 2, 1) := dk_28 (dk_at dksX0_keeps_0 18 rfl rfl)
theorem dX0_keeps_19 : decode cX0_keeps 19 = .ok (.bipush 20, 2) := dk_16 20 (dk_at dksX0_keeps_0 19 rfl rfl)
theorem dX0_keeps_21 : decode cX0_keeps 21 = .ok (.if_icmp .ge 23, 3) := dk_162 0 23 (dk_at dksX0_keeps_0 21 rfl rfl)
theorem dX0_keeps_24 : decode cX0_keeps 24 = .ok (.aload_n 0, 1) := dk_42 (dk_at dksX0_keeps_1 0 rfl rfl)
theorem dX0_keeps_25 : decode cX0_keeps 25 = .ok (.getfield 112, 3) := dk_180 0 112 (dk_at dksX0_keeps_1 1 rfl rfl)
theorem dX0_keeps_28 : decode cX0_keeps 28 = .ok (.iload_n 2, 1) := dk_28 (dk_at dksX0_keeps_1 4 rfl rfl)
theorem dX0_keeps_29 : decode cX0_keeps 29 = .ok (.iconst 1, 1) := dk_4 (dk_at dksX0_keeps_1 5 rfl rfl)
theorem dX0_keeps_30 : decode cX0_keeps 30 = .ok (.isub, 1) := dk_100 (dk_at dksX0_keeps_1 6 rfl rfl)
theorem dX0_keeps_31 : decode cX0_keeps 31 = .ok (.aload_n 0, 1) := dk_42 (dk_at dksX0_keeps_1 7 rfl rfl)
theorem dX0_keeps_32 : decode cX0_keeps 32 = .ok (.getfield 112, 3) := dk_180 0 112 (dk_at dksX0_keeps_1 8 rfl rfl)
theorem dX0_keeps_35 : decode cX0_keeps 35 = .ok (.iload_n 2, 1) := dk_28 (dk_at dksX0_keeps_1 11 rfl rfl)
theorem dX0_keeps_36 : decode cX0_keeps 36 = .ok (.aaload, 1) := dk_50 (dk_at dksX0_keeps_1 12 rfl rfl)
theorem dX0_keeps_37 : decode cX0_keeps 37 = .ok (.aastore, 1) := dk_83 (dk_at dksX0_keeps_1 13 rfl rfl)
theorem dX0_keeps_38 : decode cX0_keeps 38 = .ok (.iinc 2 1, 3) := dk_132 2 1 (dk_at dksX0_keeps_1 14 rfl rfl)
theorem dX0_keeps_41 : decode cX0_keeps 41 = .ok (.goto (-23), 3) := dk_167 255 233 (dk_at dksX0_keeps_1 17 rfl rfl)
theorem dX0_keeps_44 : decode cX0_keeps 44 = .ok (.aload_n 0, 1) := dk_42 (dk_at dksX0_keeps_1 20 rfl rfl)
theorem dX0_keeps_45 : decode cX0_keeps 45 = .ok (.getfield 112, 3) := dk_180 0 112 (dk_at dksX0_keeps_1 21 rfl rfl)
theorem dX0_keeps_48 : decode cX0_keeps 48 = .ok (.bipush 19, 2) := dk_16 19 (dk_at dksX0_keeps_2 0 rfl rfl)
theorem dX0_keeps_50 : decode cX0_keeps 50 = .ok (.aload_n 1, 1) := dk_43 (dk_at dksX0_keeps_2 2 rfl rfl)
theorem dX0_keeps_51 : decode cX0_keeps 51 = .ok (.aastore, 1) := dk_83 (dk_at dksX0_keeps_2 3 rfl rfl)
theorem dX0_keeps_52 : decode cX0_keeps 52 = .ok (.aload_n 0, 1) := dk_42 (dk_at dksX0_keeps_2 4 rfl rfl)
theorem dX0_keeps_53 : decode cX0_keeps 53 = .ok (.dup, 1) := dk_89 (dk_at dksX0_keeps_2 5 rfl rfl)
theorem dX0_keeps_54 : decode cX0_keeps 54 = .ok (.getfield 159, 3) := dk_180 0 159 (dk_at dksX0_keeps_2 6 rfl rfl)
theorem dX0_keeps_57 : decode cX0_keeps 57 = .ok (.iconst 1, 1) := dk_4 (dk_at dksX0_keeps_2 9 rfl rfl)
theorem dX0_keeps_58 : decode cX0_keeps 58 = .ok (.isub, 1) := dk_100 (dk_at dksX0_keeps_2 10 rfl rfl)
theorem dX0_keeps_59 : decode cX0_keeps 59 = .ok (.putfield 159, 3) := dk_181 0 159 (dk_at dksX0_keeps_2 11 rfl rfl)
theorem dX0_keeps_62 : decode cX0_keeps 62 = .ok (.aload_n 0, 1) := dk_42 (dk_at dksX0_keeps_2 14 rfl rfl)
theorem dX0_keeps_63 : decode cX0_keeps 63 = .ok (.getfield 112, 3) := dk_180 0 112 (dk_at dksX0_keeps_2 15 rfl rfl)
theorem dX0_keeps_66 : decode cX0_keeps 66 = .ok (.aload_n 0, 1) := dk_42 (dk_at dksX0_keeps_2 18 rfl rfl)
theorem dX0_keeps_67 : decode cX0_keeps 67 = .ok (.getfield 159, 3) := dk_180 0 159 (dk_at dksX0_keeps_2 19 rfl rfl)
theorem dX0_keeps_70 : decode cX0_keeps 70 = .ok (.aaload, 1) := dk_50 (dk_at dksX0_keeps_2 22 rfl rfl)
theorem dX0_keeps_71 : decode cX0_keeps 71 = .ok (.aload_n 0, 1) := dk_42 (dk_at dksX0_keeps_2 23 rfl rfl)
theorem dX0_keeps_72 : decode cX0_keeps 72 = .ok (.getfield 69, 3) := dk_180 0 69 (dk_at dksX0_keeps_3 0 rfl rfl)
theorem dX0_keeps_75 : decode cX0_keeps 75 = .ok (.invokevirtual 369, 3) := dk_182 1 113 (dk_at dksX0_keeps_3 3 rfl rfl)
theorem dX0_keeps_78 : decode cX0_keeps 78 = .ok (.aload_n 0, 1) := dk_42 (dk_at dksX0_keeps_3 6 rfl rfl)
theorem dX0_keeps_79 : decode cX0_keeps 79 = .ok (.dup, 1) := dk_89 (dk_at dksX0_keeps_3 7 rfl rfl)
theorem dX0_keeps_80 : decode cX0_keeps 80 = .ok (.getfield 159, 3) := dk_180 0 159 (dk_at dksX0_keeps_3 8 rfl rfl)
theorem dX0_keeps_83 : decode cX0_keeps 83 = .ok (.iconst 1, 1) := dk_4 (dk_at dksX0_keeps_3 11 rfl rfl)
theorem dX0_keeps_84 : decode cX0_keeps 84 = .ok (.iadd, 1) := dk_96 (dk_at dksX0_keeps_3 12 rfl rfl)
theorem dX0_keeps_85 : decode cX0_keeps 85 = .ok (.putfield 159, 3) := dk_181 0 159 (dk_at dksX0_keeps_3 13 rfl rfl)
theorem dX0_keeps_88 : decode cX0_keeps 88 = .ok (.return_, 1) := dk_177 (dk_at dksX0_keeps_3 16 rfl rfl)
abbrev cX0_send : ByteArray := prog_1_method_61_code
def yX0_send : MethodName := ⟨RX0, "send", "(I)I"⟩
def dkwX0_send_4 : List UInt8 := [27, 46, 79, 42, 180, 0, 69, 180, 1, 41, 27, 28, 79, 42, 180, 0, 69, 180, 1, 9, 27, 46, 172]
abbrev dktX0_send_4 : List UInt8 := dkwX0_send_4 ++ []
def dkwX0_send_3 : List UInt8 := [180, 0, 69, 180, 1, 39, 27, 46, 61, 42, 180, 0, 69, 180, 1, 39, 27, 42, 180, 0, 69, 180, 1, 41]
abbrev dktX0_send_3 : List UInt8 := dkwX0_send_3 ++ dktX0_send_4
def dkwX0_send_2 : List UInt8 := [180, 0, 69, 180, 1, 9, 27, 42, 180, 0, 81, 42, 180, 0, 69, 180, 1, 41, 27, 46, 46, 79, 42]
abbrev dktX0_send_2 : List UInt8 := dkwX0_send_2 ++ dktX0_send_3
def dkwX0_send_1 : List UInt8 := [180, 1, 41, 27, 46, 46, 17, 39, 15, 164, 0, 9, 42, 5, 182, 0, 129, 172, 42, 182, 1, 117, 42]
abbrev dktX0_send_1 : List UInt8 := dkwX0_send_1 ++ dktX0_send_2
def dkwX0_send_0 : List UInt8 := [42, 27, 182, 1, 27, 153, 0, 31, 42, 27, 182, 1, 73, 153, 0, 23, 42, 180, 0, 81, 42, 180, 0, 69]
abbrev dktX0_send_0 : List UInt8 := dkwX0_send_0 ++ dktX0_send_1
theorem dksX0_send_0 : cX0_send.data.toList.drop 0 = dktX0_send_0 := by decide +kernel
theorem dksX0_send_1 : cX0_send.data.toList.drop 24 = dktX0_send_1 := dk_seg dksX0_send_0 24 rfl rfl
theorem dksX0_send_2 : cX0_send.data.toList.drop 47 = dktX0_send_2 := dk_seg dksX0_send_1 23 rfl rfl
theorem dksX0_send_3 : cX0_send.data.toList.drop 70 = dktX0_send_3 := dk_seg dksX0_send_2 23 rfl rfl
theorem dksX0_send_4 : cX0_send.data.toList.drop 94 = dktX0_send_4 := dk_seg dksX0_send_3 24 rfl rfl
theorem dX0_send_0 : decode cX0_send 0 = .ok (.aload_n 0, 1) := dk_42 (dk_at dksX0_send_0 0 rfl rfl)
theorem dX0_send_1 : decode cX0_send 1 = .ok (.iload_n 1, 1) := dk_27 (dk_at dksX0_send_0 1 rfl rfl)
theorem dX0_send_2 : decode cX0_send 2 = .ok (.invokevirtual 283, 3) := dk_182 1 27 (dk_at dksX0_send_0 2 rfl rfl)
theorem dX0_send_5 : decode cX0_send 5 = .ok (.ifCond .eq 31, 3) := dk_153 0 31 (dk_at dksX0_send_0 5 rfl rfl)
theorem dX0_send_8 : decode cX0_send 8 = .ok (.aload_n 0, 1) := dk_42 (dk_at dksX0_send_0 8 rfl rfl)
theorem dX0_send_9 : decode cX0_send 9 = .ok (.iload_n 1, 1) := dk_27 (dk_at dksX0_send_0 9 rfl rfl)
theorem dX0_send_10 : decode cX0_send 10 = .ok (.invokevirtual 329, 3) := dk_182 1 73 (dk_at dksX0_send_0 10 rfl rfl)
theorem dX0_send_13 : decode cX0_send 13 = .ok (.ifCond .eq 23, 3) := dk_153 0 23 (dk_at dksX0_send_0 13 rfl rfl)
theorem dX0_send_16 : decode cX0_send 16 = .ok (.aload_n 0, 1) := dk_42 (dk_at dksX0_send_0 16 rfl rfl)
theorem dX0_send_17 : decode cX0_send 17 = .ok (.getfield 81, 3) := dk_180 0 81 (dk_at dksX0_send_0 17 rfl rfl)
theorem dX0_send_20 : decode cX0_send 20 = .ok (.aload_n 0, 1) := dk_42 (dk_at dksX0_send_0 20 rfl rfl)
theorem dX0_send_21 : decode cX0_send 21 = .ok (.getfield 69, 3) := dk_180 0 69 (dk_at dksX0_send_0 21 rfl rfl)
theorem dX0_send_24 : decode cX0_send 24 = .ok (.getfield 297, 3) := dk_180 1 41 (dk_at dksX0_send_1 0 rfl rfl)
theorem dX0_send_27 : decode cX0_send 27 = .ok (.iload_n 1, 1) := dk_27 (dk_at dksX0_send_1 3 rfl rfl)
theorem dX0_send_28 : decode cX0_send 28 = .ok (.iaload, 1) := dk_46 (dk_at dksX0_send_1 4 rfl rfl)
theorem dX0_send_29 : decode cX0_send 29 = .ok (.iaload, 1) := dk_46 (dk_at dksX0_send_1 5 rfl rfl)
theorem dX0_send_30 : decode cX0_send 30 = .ok (.sipush 9999, 3) := dk_17 39 15 (dk_at dksX0_send_1 6 rfl rfl)
theorem dX0_send_33 : decode cX0_send 33 = .ok (.if_icmp .le 9, 3) := dk_164 0 9 (dk_at dksX0_send_1 9 rfl rfl)
theorem dX0_send_36 : decode cX0_send 36 = .ok (.aload_n 0, 1) := dk_42 (dk_at dksX0_send_1 12 rfl rfl)
theorem dX0_send_37 : decode cX0_send 37 = .ok (.iconst 2, 1) := dk_5 (dk_at dksX0_send_1 13 rfl rfl)
theorem dX0_send_38 : decode cX0_send 38 = .ok (.invokevirtual 129, 3) := dk_182 0 129 (dk_at dksX0_send_1 14 rfl rfl)
theorem dX0_send_41 : decode cX0_send 41 = .ok (.ireturn, 1) := dk_172 (dk_at dksX0_send_1 17 rfl rfl)
theorem dX0_send_42 : decode cX0_send 42 = .ok (.aload_n 0, 1) := dk_42 (dk_at dksX0_send_1 18 rfl rfl)
theorem dX0_send_43 : decode cX0_send 43 = .ok (.invokevirtual 373, 3) := dk_182 1 117 (dk_at dksX0_send_1 19 rfl rfl)
theorem dX0_send_46 : decode cX0_send 46 = .ok (.aload_n 0, 1) := dk_42 (dk_at dksX0_send_1 22 rfl rfl)
theorem dX0_send_47 : decode cX0_send 47 = .ok (.getfield 69, 3) := dk_180 0 69 (dk_at dksX0_send_2 0 rfl rfl)
theorem dX0_send_50 : decode cX0_send 50 = .ok (.getfield 265, 3) := dk_180 1 9 (dk_at dksX0_send_2 3 rfl rfl)
theorem dX0_send_53 : decode cX0_send 53 = .ok (.iload_n 1, 1) := dk_27 (dk_at dksX0_send_2 6 rfl rfl)
theorem dX0_send_54 : decode cX0_send 54 = .ok (.aload_n 0, 1) := dk_42 (dk_at dksX0_send_2 7 rfl rfl)
theorem dX0_send_55 : decode cX0_send 55 = .ok (.getfield 81, 3) := dk_180 0 81 (dk_at dksX0_send_2 8 rfl rfl)
theorem dX0_send_58 : decode cX0_send 58 = .ok (.aload_n 0, 1) := dk_42 (dk_at dksX0_send_2 11 rfl rfl)
theorem dX0_send_59 : decode cX0_send 59 = .ok (.getfield 69, 3) := dk_180 0 69 (dk_at dksX0_send_2 12 rfl rfl)
theorem dX0_send_62 : decode cX0_send 62 = .ok (.getfield 297, 3) := dk_180 1 41 (dk_at dksX0_send_2 15 rfl rfl)
theorem dX0_send_65 : decode cX0_send 65 = .ok (.iload_n 1, 1) := dk_27 (dk_at dksX0_send_2 18 rfl rfl)
theorem dX0_send_66 : decode cX0_send 66 = .ok (.iaload, 1) := dk_46 (dk_at dksX0_send_2 19 rfl rfl)
theorem dX0_send_67 : decode cX0_send 67 = .ok (.iaload, 1) := dk_46 (dk_at dksX0_send_2 20 rfl rfl)
theorem dX0_send_68 : decode cX0_send 68 = .ok (.iastore, 1) := dk_79 (dk_at dksX0_send_2 21 rfl rfl)
theorem dX0_send_69 : decode cX0_send 69 = .ok (.aload_n 0, 1) := dk_42 (dk_at dksX0_send_2 22 rfl rfl)
theorem dX0_send_70 : decode cX0_send 70 = .ok (.getfield 69, 3) := dk_180 0 69 (dk_at dksX0_send_3 0 rfl rfl)
theorem dX0_send_73 : decode cX0_send 73 = .ok (.getfield 295, 3) := dk_180 1 39 (dk_at dksX0_send_3 3 rfl rfl)
theorem dX0_send_76 : decode cX0_send 76 = .ok (.iload_n 1, 1) := dk_27 (dk_at dksX0_send_3 6 rfl rfl)
theorem dX0_send_77 : decode cX0_send 77 = .ok (.iaload, 1) := dk_46 (dk_at dksX0_send_3 7 rfl rfl)
theorem dX0_send_78 : decode cX0_send 78 = .ok (.istore_n 2, 1) := dk_61 (dk_at dksX0_send_3 8 rfl rfl)
theorem dX0_send_79 : decode cX0_send 79 = .ok (.aload_n 0, 1) := dk_42 (dk_at dksX0_send_3 9 rfl rfl)
theorem dX0_send_80 : decode cX0_send 80 = .ok (.getfield 69, 3) := dk_180 0 69 (dk_at dksX0_send_3 10 rfl rfl)
theorem dX0_send_83 : decode cX0_send 83 = .ok (.getfield 295, 3) := dk_180 1 39 (dk_at dksX0_send_3 13 rfl rfl)
theorem dX0_send_86 : decode cX0_send 86 = .ok (.iload_n 1, 1) := dk_27 (dk_at dksX0_send_3 16 rfl rfl)
theorem dX0_send_87 : decode cX0_send 87 = .ok (.aload_n 0, 1) := dk_42 (dk_at dksX0_send_3 17 rfl rfl)
theorem dX0_send_88 : decode cX0_send 88 = .ok (.getfield 69, 3) := dk_180 0 69 (dk_at dksX0_send_3 18 rfl rfl)
theorem dX0_send_91 : decode cX0_send 91 = .ok (.getfield 297, 3) := dk_180 1 41 (dk_at dksX0_send_3 21 rfl rfl)
theorem dX0_send_94 : decode cX0_send 94 = .ok (.iload_n 1, 1) := dk_27 (dk_at dksX0_send_4 0 rfl rfl)
theorem dX0_send_95 : decode cX0_send 95 = .ok (.iaload, 1) := dk_46 (dk_at dksX0_send_4 1 rfl rfl)
theorem dX0_send_96 : decode cX0_send 96 = .ok (.iastore, 1) := dk_79 (dk_at dksX0_send_4 2 rfl rfl)
theorem dX0_send_97 : decode cX0_send 97 = .ok (.aload_n 0, 1) := dk_42 (dk_at dksX0_send_4 3 rfl rfl)
theorem dX0_send_98 : decode cX0_send 98 = .ok (.getfield 69, 3) := dk_180 0 69 (dk_at dksX0_send_4 4 rfl rfl)
theorem dX0_send_101 : decode cX0_send 101 = .ok (.getfield 297, 3) := dk_180 1 41 (dk_at dksX0_send_4 7 rfl rfl)
theorem dX0_send_104 : decode cX0_send 104 = .ok (.iload_n 1, 1) := dk_27 (dk_at dksX0_send_4 10 rfl rfl)
theorem dX0_send_105 : decode cX0_send 105 = .ok (.iload_n 2, 1) := dk_28 (dk_at dksX0_send_4 11 rfl rfl)
theorem dX0_send_106 : decode cX0_send 106 = .ok (.iastore, 1) := dk_79 (dk_at dksX0_send_4 12 rfl rfl)
theorem dX0_send_107 : decode cX0_send 107 = .ok (.aload_n 0, 1) := dk_42 (dk_at dksX0_send_4 13 rfl rfl)
theorem dX0_send_108 : decode cX0_send 108 = .ok (.getfield 69, 3) := dk_180 0 69 (dk_at dksX0_send_4 14 rfl rfl)
theorem dX0_send_111 : decode cX0_send 111 = .ok (.getfield 265, 3) := dk_180 1 9 (dk_at dksX0_send_4 17 rfl rfl)
theorem dX0_send_114 : decode cX0_send 114 = .ok (.iload_n 1, 1) := dk_27 (dk_at dksX0_send_4 20 rfl rfl)
theorem dX0_send_115 : decode cX0_send 115 = .ok (.iaload, 1) := dk_46 (dk_at dksX0_send_4 21 rfl rfl)
theorem dX0_send_116 : decode cX0_send 116 = .ok (.ireturn, 1) := dk_172 (dk_at dksX0_send_4 22 rfl rfl)
abbrev cX0_hold : ByteArray := prog_1_method_63_code
def yX0_hold : MethodName := ⟨RX0, "hold", "(II)I"⟩
def dkwX0_hold_1 : List UInt8 := [42, 182, 1, 117, 42, 27, 28, 116, 182, 1, 123, 42, 180, 0, 69, 180, 0, 225, 27, 46, 172]
abbrev dktX0_hold_1 : List UInt8 := dkwX0_hold_1 ++ []
def dkwX0_hold_0 : List UInt8 := [42, 27, 182, 0, 244, 153, 0, 13, 28, 4, 16, 99, 184, 0, 192, 154, 0, 9, 42, 5, 182, 0, 129, 172]
abbrev dktX0_hold_0 : List UInt8 := dkwX0_hold_0 ++ dktX0_hold_1
theorem dksX0_hold_0 : cX0_hold.data.toList.drop 0 = dktX0_hold_0 := by decide +kernel
theorem dksX0_hold_1 : cX0_hold.data.toList.drop 24 = dktX0_hold_1 := dk_seg dksX0_hold_0 24 rfl rfl
theorem dX0_hold_0 : decode cX0_hold 0 = .ok (.aload_n 0, 1) := dk_42 (dk_at dksX0_hold_0 0 rfl rfl)
theorem dX0_hold_1 : decode cX0_hold 1 = .ok (.iload_n 1, 1) := dk_27 (dk_at dksX0_hold_0 1 rfl rfl)
theorem dX0_hold_2 : decode cX0_hold 2 = .ok (.invokevirtual 244, 3) := dk_182 0 244 (dk_at dksX0_hold_0 2 rfl rfl)
theorem dX0_hold_5 : decode cX0_hold 5 = .ok (.ifCond .eq 13, 3) := dk_153 0 13 (dk_at dksX0_hold_0 5 rfl rfl)
theorem dX0_hold_8 : decode cX0_hold 8 = .ok (.iload_n 2, 1) := dk_28 (dk_at dksX0_hold_0 8 rfl rfl)
theorem dX0_hold_9 : decode cX0_hold 9 = .ok (.iconst 1, 1) := dk_4 (dk_at dksX0_hold_0 9 rfl rfl)
theorem dX0_hold_10 : decode cX0_hold 10 = .ok (.bipush 99, 2) := dk_16 99 (dk_at dksX0_hold_0 10 rfl rfl)
theorem dX0_hold_12 : decode cX0_hold 12 = .ok (.invokestatic 192, 3) := dk_184 0 192 (dk_at dksX0_hold_0 12 rfl rfl)
theorem dX0_hold_15 : decode cX0_hold 15 = .ok (.ifCond .ne 9, 3) := dk_154 0 9 (dk_at dksX0_hold_0 15 rfl rfl)
theorem dX0_hold_18 : decode cX0_hold 18 = .ok (.aload_n 0, 1) := dk_42 (dk_at dksX0_hold_0 18 rfl rfl)
theorem dX0_hold_19 : decode cX0_hold 19 = .ok (.iconst 2, 1) := dk_5 (dk_at dksX0_hold_0 19 rfl rfl)
theorem dX0_hold_20 : decode cX0_hold 20 = .ok (.invokevirtual 129, 3) := dk_182 0 129 (dk_at dksX0_hold_0 20 rfl rfl)
theorem dX0_hold_23 : decode cX0_hold 23 = .ok (.ireturn, 1) := dk_172 (dk_at dksX0_hold_0 23 rfl rfl)
theorem dX0_hold_24 : decode cX0_hold 24 = .ok (.aload_n 0, 1) := dk_42 (dk_at dksX0_hold_1 0 rfl rfl)
theorem dX0_hold_25 : decode cX0_hold 25 = .ok (.invokevirtual 373, 3) := dk_182 1 117 (dk_at dksX0_hold_1 1 rfl rfl)
theorem dX0_hold_28 : decode cX0_hold 28 = .ok (.aload_n 0, 1) := dk_42 (dk_at dksX0_hold_1 4 rfl rfl)
theorem dX0_hold_29 : decode cX0_hold 29 = .ok (.iload_n 1, 1) := dk_27 (dk_at dksX0_hold_1 5 rfl rfl)
theorem dX0_hold_30 : decode cX0_hold 30 = .ok (.iload_n 2, 1) := dk_28 (dk_at dksX0_hold_1 6 rfl rfl)
theorem dX0_hold_31 : decode cX0_hold 31 = .ok (.ineg, 1) := dk_116 (dk_at dksX0_hold_1 7 rfl rfl)
theorem dX0_hold_32 : decode cX0_hold 32 = .ok (.invokevirtual 379, 3) := dk_182 1 123 (dk_at dksX0_hold_1 8 rfl rfl)
theorem dX0_hold_35 : decode cX0_hold 35 = .ok (.aload_n 0, 1) := dk_42 (dk_at dksX0_hold_1 11 rfl rfl)
theorem dX0_hold_36 : decode cX0_hold 36 = .ok (.getfield 69, 3) := dk_180 0 69 (dk_at dksX0_hold_1 12 rfl rfl)
theorem dX0_hold_39 : decode cX0_hold 39 = .ok (.getfield 225, 3) := dk_180 0 225 (dk_at dksX0_hold_1 15 rfl rfl)
theorem dX0_hold_42 : decode cX0_hold 42 = .ok (.iload_n 1, 1) := dk_27 (dk_at dksX0_hold_1 18 rfl rfl)
theorem dX0_hold_43 : decode cX0_hold 43 = .ok (.iaload, 1) := dk_46 (dk_at dksX0_hold_1 19 rfl rfl)
theorem dX0_hold_44 : decode cX0_hold 44 = .ok (.ireturn, 1) := dk_172 (dk_at dksX0_hold_1 20 rfl rfl)
abbrev cX0_moves : ByteArray := prog_1_method_62_code
def yX0_moves : MethodName := ⟨RX0, "moves", "(II)V"⟩
def dkwX0_moves_1 : List UInt8 := [182, 0, 196, 180, 0, 200, 184, 1, 120, 79, 177]
abbrev dktX0_moves_1 : List UInt8 := dkwX0_moves_1 ++ []
def dkwX0_moves_0 : List UInt8 := [42, 180, 0, 69, 180, 0, 225, 27, 42, 180, 0, 69, 180, 0, 225, 27, 46, 28, 96, 42, 180, 0, 31, 27]
abbrev dktX0_moves_0 : List UInt8 := dkwX0_moves_0 ++ dktX0_moves_1
theorem dksX0_moves_0 : cX0_moves.data.toList.drop 0 = dktX0_moves_0 := by decide +kernel
theorem dksX0_moves_1 : cX0_moves.data.toList.drop 24 = dktX0_moves_1 := dk_seg dksX0_moves_0 24 rfl rfl
theorem dX0_moves_0 : decode cX0_moves 0 = .ok (.aload_n 0, 1) := dk_42 (dk_at dksX0_moves_0 0 rfl rfl)
theorem dX0_moves_1 : decode cX0_moves 1 = .ok (.getfield 69, 3) := dk_180 0 69 (dk_at dksX0_moves_0 1 rfl rfl)
theorem dX0_moves_4 : decode cX0_moves 4 = .ok (.getfield 225, 3) := dk_180 0 225 (dk_at dksX0_moves_0 4 rfl rfl)
theorem dX0_moves_7 : decode cX0_moves 7 = .ok (.iload_n 1, 1) := dk_27 (dk_at dksX0_moves_0 7 rfl rfl)
theorem dX0_moves_8 : decode cX0_moves 8 = .ok (.aload_n 0, 1) := dk_42 (dk_at dksX0_moves_0 8 rfl rfl)
theorem dX0_moves_9 : decode cX0_moves 9 = .ok (.getfield 69, 3) := dk_180 0 69 (dk_at dksX0_moves_0 9 rfl rfl)
theorem dX0_moves_12 : decode cX0_moves 12 = .ok (.getfield 225, 3) := dk_180 0 225 (dk_at dksX0_moves_0 12 rfl rfl)
theorem dX0_moves_15 : decode cX0_moves 15 = .ok (.iload_n 1, 1) := dk_27 (dk_at dksX0_moves_0 15 rfl rfl)
theorem dX0_moves_16 : decode cX0_moves 16 = .ok (.iaload, 1) := dk_46 (dk_at dksX0_moves_0 16 rfl rfl)
theorem dX0_moves_17 : decode cX0_moves 17 = .ok (.iload_n 2, 1) := dk_28 (dk_at dksX0_moves_0 17 rfl rfl)
theorem dX0_moves_18 : decode cX0_moves 18 = .ok (.iadd, 1) := dk_96 (dk_at dksX0_moves_0 18 rfl rfl)
theorem dX0_moves_19 : decode cX0_moves 19 = .ok (.aload_n 0, 1) := dk_42 (dk_at dksX0_moves_0 19 rfl rfl)
theorem dX0_moves_20 : decode cX0_moves 20 = .ok (.getfield 31, 3) := dk_180 0 31 (dk_at dksX0_moves_0 20 rfl rfl)
theorem dX0_moves_23 : decode cX0_moves 23 = .ok (.iload_n 1, 1) := dk_27 (dk_at dksX0_moves_0 23 rfl rfl)
theorem dX0_moves_24 : decode cX0_moves 24 = .ok (.invokevirtual 196, 3) := dk_182 0 196 (dk_at dksX0_moves_1 0 rfl rfl)
theorem dX0_moves_27 : decode cX0_moves 27 = .ok (.getfield 200, 3) := dk_180 0 200 (dk_at dksX0_moves_1 3 rfl rfl)
theorem dX0_moves_30 : decode cX0_moves 30 = .ok (.invokestatic 376, 3) := dk_184 1 120 (dk_at dksX0_moves_1 6 rfl rfl)
theorem dX0_moves_33 : decode cX0_moves 33 = .ok (.iastore, 1) := dk_79 (dk_at dksX0_moves_1 9 rfl rfl)
theorem dX0_moves_34 : decode cX0_moves 34 = .ok (.return_, 1) := dk_177 (dk_at dksX0_moves_1 10 rfl rfl)
abbrev cX0_days : ByteArray := prog_1_method_65_code
def yX0_days : MethodName := ⟨RX0, "days", "(I)I"⟩
def dkwX0_days_4 : List UInt8 := [167, 255, 203, 42, 180, 0, 69, 180, 1, 3, 172]
abbrev dktX0_days_4 : List UInt8 := dkwX0_days_4 ++ []
def dkwX0_days_3 : List UInt8 := [42, 182, 0, 186, 182, 1, 135, 62, 42, 29, 42, 6, 182, 1, 135, 4, 100, 182, 1, 123, 132, 2, 1]
abbrev dktX0_days_3 : List UInt8 := dkwX0_days_3 ++ dktX0_days_4
def dkwX0_days_2 : List UInt8 := [180, 0, 69, 89, 180, 1, 3, 16, 24, 96, 181, 1, 3, 42, 182, 0, 186, 154, 0, 6, 167, 0, 24, 42]
abbrev dktX0_days_2 : List UInt8 := dkwX0_days_2 ++ dktX0_days_3
def dkwX0_days_1 : List UInt8 := [17, 39, 15, 164, 0, 9, 42, 5, 182, 0, 129, 172, 42, 182, 1, 117, 3, 61, 28, 27, 162, 0, 54, 42]
abbrev dktX0_days_1 : List UInt8 := dkwX0_days_1 ++ dktX0_days_2
def dkwX0_days_0 : List UInt8 := [27, 4, 16, 30, 184, 0, 192, 153, 0, 21, 42, 180, 0, 69, 180, 1, 3, 16, 24, 27, 104, 96]
abbrev dktX0_days_0 : List UInt8 := dkwX0_days_0 ++ dktX0_days_1
theorem dksX0_days_0 : cX0_days.data.toList.drop 0 = dktX0_days_0 := by decide +kernel
theorem dksX0_days_1 : cX0_days.data.toList.drop 22 = dktX0_days_1 := dk_seg dksX0_days_0 22 rfl rfl
theorem dksX0_days_2 : cX0_days.data.toList.drop 46 = dktX0_days_2 := dk_seg dksX0_days_1 24 rfl rfl
theorem dksX0_days_3 : cX0_days.data.toList.drop 70 = dktX0_days_3 := dk_seg dksX0_days_2 24 rfl rfl
theorem dksX0_days_4 : cX0_days.data.toList.drop 93 = dktX0_days_4 := dk_seg dksX0_days_3 23 rfl rfl
theorem dX0_days_0 : decode cX0_days 0 = .ok (.iload_n 1, 1) := dk_27 (dk_at dksX0_days_0 0 rfl rfl)
theorem dX0_days_1 : decode cX0_days 1 = .ok (.iconst 1, 1) := dk_4 (dk_at dksX0_days_0 1 rfl rfl)
theorem dX0_days_2 : decode cX0_days 2 = .ok (.bipush 30, 2) := dk_16 30 (dk_at dksX0_days_0 2 rfl rfl)
theorem dX0_days_4 : decode cX0_days 4 = .ok (.invokestatic 192, 3) := dk_184 0 192 (dk_at dksX0_days_0 4 rfl rfl)
theorem dX0_days_7 : decode cX0_days 7 = .ok (.ifCond .eq 21, 3) := dk_153 0 21 (dk_at dksX0_days_0 7 rfl rfl)
theorem dX0_days_10 : decode cX0_days 10 = .ok (.aload_n 0, 1) := dk_42 (dk_at dksX0_days_0 10 rfl rfl)
theorem dX0_days_11 : decode cX0_days 11 = .ok (.getfield 69, 3) := dk_180 0 69 (dk_at dksX0_days_0 11 rfl rfl)
theorem dX0_days_14 : decode cX0_days 14 = .ok (.getfield 259, 3) := dk_180 1 3 (dk_at dksX0_days_0 14 rfl rfl)
theorem dX0_days_17 : decode cX0_days 17 = .ok (.bipush 24, 2) := dk_16 24 (dk_at dksX0_days_0 17 rfl rfl)
theorem dX0_days_19 : decode cX0_days 19 = .ok (.iload_n 1, 1) := dk_27 (dk_at dksX0_days_0 19 rfl rfl)
theorem dX0_days_20 : decode cX0_days 20 = .ok (.imul, 1) := dk_104 (dk_at dksX0_days_0 20 rfl rfl)
theorem dX0_days_21 : decode cX0_days 21 = .ok (.iadd, 1) := dk_96 (dk_at dksX0_days_0 21 rfl rfl)
theorem dX0_days_22 : decode cX0_days 22 = .ok (.sipush 9999, 3) := dk_17 39 15 (dk_at dksX0_days_1 0 rfl rfl)
theorem dX0_days_25 : decode cX0_days 25 = .ok (.if_icmp .le 9, 3) := dk_164 0 9 (dk_at dksX0_days_1 3 rfl rfl)
theorem dX0_days_28 : decode cX0_days 28 = .ok (.aload_n 0, 1) := dk_42 (dk_at dksX0_days_1 6 rfl rfl)
theorem dX0_days_29 : decode cX0_days 29 = .ok (.iconst 2, 1) := dk_5 (dk_at dksX0_days_1 7 rfl rfl)
theorem dX0_days_30 : decode cX0_days 30 = .ok (.invokevirtual 129, 3) := dk_182 0 129 (dk_at dksX0_days_1 8 rfl rfl)
theorem dX0_days_33 : decode cX0_days 33 = .ok (.ireturn, 1) := dk_172 (dk_at dksX0_days_1 11 rfl rfl)
theorem dX0_days_34 : decode cX0_days 34 = .ok (.aload_n 0, 1) := dk_42 (dk_at dksX0_days_1 12 rfl rfl)
theorem dX0_days_35 : decode cX0_days 35 = .ok (.invokevirtual 373, 3) := dk_182 1 117 (dk_at dksX0_days_1 13 rfl rfl)
theorem dX0_days_38 : decode cX0_days 38 = .ok (.iconst 0, 1) := dk_3 (dk_at dksX0_days_1 16 rfl rfl)
theorem dX0_days_39 : decode cX0_days 39 = .ok (.istore_n 2, 1) := dk_61 (dk_at dksX0_days_1 17 rfl rfl)
theorem dX0_days_40 : decode cX0_days 40 = .ok (.iload_n 2, 1) := dk_28 (dk_at dksX0_days_1 18 rfl rfl)
theorem dX0_days_41 : decode cX0_days 41 = .ok (.iload_n 1, 1) := dk_27 (dk_at dksX0_days_1 19 rfl rfl)
theorem dX0_days_42 : decode cX0_days 42 = .ok (.if_icmp .ge 54, 3) := dk_162 0 54 (dk_at dksX0_days_1 20 rfl rfl)
theorem dX0_days_45 : decode cX0_days 45 = .ok (.aload_n 0, 1) := dk_42 (dk_at dksX0_days_1 23 rfl rfl)
theorem dX0_days_46 : decode cX0_days 46 = .ok (.getfield 69, 3) := dk_180 0 69 (dk_at dksX0_days_2 0 rfl rfl)
theorem dX0_days_49 : decode cX0_days 49 = .ok (.dup, 1) := dk_89 (dk_at dksX0_days_2 3 rfl rfl)
theorem dX0_days_50 : decode cX0_days 50 = .ok (.getfield 259, 3) := dk_180 1 3 (dk_at dksX0_days_2 4 rfl rfl)
theorem dX0_days_53 : decode cX0_days 53 = .ok (.bipush 24, 2) := dk_16 24 (dk_at dksX0_days_2 7 rfl rfl)
theorem dX0_days_55 : decode cX0_days 55 = .ok (.iadd, 1) := dk_96 (dk_at dksX0_days_2 9 rfl rfl)
theorem dX0_days_56 : decode cX0_days 56 = .ok (.putfield 259, 3) := dk_181 1 3 (dk_at dksX0_days_2 10 rfl rfl)
theorem dX0_days_59 : decode cX0_days 59 = .ok (.aload_n 0, 1) := dk_42 (dk_at dksX0_days_2 13 rfl rfl)
theorem dX0_days_60 : decode cX0_days 60 = .ok (.invokevirtual 186, 3) := dk_182 0 186 (dk_at dksX0_days_2 14 rfl rfl)
theorem dX0_days_63 : decode cX0_days 63 = .ok (.ifCond .ne 6, 3) := dk_154 0 6 (dk_at dksX0_days_2 17 rfl rfl)
theorem dX0_days_66 : decode cX0_days 66 = .ok (.goto 24, 3) := dk_167 0 24 (dk_at dksX0_days_2 20 rfl rfl)
theorem dX0_days_69 : decode cX0_days 69 = .ok (.aload_n 0, 1) := dk_42 (dk_at dksX0_days_2 23 rfl rfl)
theorem dX0_days_70 : decode cX0_days 70 = .ok (.aload_n 0, 1) := dk_42 (dk_at dksX0_days_3 0 rfl rfl)
theorem dX0_days_71 : decode cX0_days 71 = .ok (.invokevirtual 186, 3) := dk_182 0 186 (dk_at dksX0_days_3 1 rfl rfl)
theorem dX0_days_74 : decode cX0_days 74 = .ok (.invokevirtual 391, 3) := dk_182 1 135 (dk_at dksX0_days_3 4 rfl rfl)
theorem dX0_days_77 : decode cX0_days 77 = .ok (.istore_n 3, 1) := dk_62 (dk_at dksX0_days_3 7 rfl rfl)
theorem dX0_days_78 : decode cX0_days 78 = .ok (.aload_n 0, 1) := dk_42 (dk_at dksX0_days_3 8 rfl rfl)
theorem dX0_days_79 : decode cX0_days 79 = .ok (.iload_n 3, 1) := dk_29 (dk_at dksX0_days_3 9 rfl rfl)
theorem dX0_days_80 : decode cX0_days 80 = .ok (.aload_n 0, 1) := dk_42 (dk_at dksX0_days_3 10 rfl rfl)
theorem dX0_days_81 : decode cX0_days 81 = .ok (.iconst 3, 1) := dk_6 (dk_at dksX0_days_3 11 rfl rfl)
theorem dX0_days_82 : decode cX0_days 82 = .ok (.invokevirtual 391, 3) := dk_182 1 135 (dk_at dksX0_days_3 12 rfl rfl)
theorem dX0_days_85 : decode cX0_days 85 = .ok (.iconst 1, 1) := dk_4 (dk_at dksX0_days_3 15 rfl rfl)
theorem dX0_days_86 : decode cX0_days 86 = .ok (.isub, 1) := dk_100 (dk_at dksX0_days_3 16 rfl rfl)
theorem dX0_days_87 : decode cX0_days 87 = .ok (.invokevirtual 379, 3) := dk_182 1 123 (dk_at dksX0_days_3 17 rfl rfl)
theorem dX0_days_90 : decode cX0_days 90 = .ok (.iinc 2 1, 3) := dk_132 2 1 (dk_at dksX0_days_3 20 rfl rfl)
theorem dX0_days_93 : decode cX0_days 93 = .ok (.goto (-53), 3) := dk_167 255 203 (dk_at dksX0_days_4 0 rfl rfl)
theorem dX0_days_96 : decode cX0_days 96 = .ok (.aload_n 0, 1) := dk_42 (dk_at dksX0_days_4 3 rfl rfl)
theorem dX0_days_97 : decode cX0_days 97 = .ok (.getfield 69, 3) := dk_180 0 69 (dk_at dksX0_days_4 4 rfl rfl)
theorem dX0_days_100 : decode cX0_days 100 = .ok (.getfield 259, 3) := dk_180 1 3 (dk_at dksX0_days_4 7 rfl rfl)
theorem dX0_days_103 : decode cX0_days 103 = .ok (.ireturn, 1) := dk_172 (dk_at dksX0_days_4 10 rfl rfl)
abbrev cX0_draw : ByteArray := prog_1_method_64_code
def yX0_draw : MethodName := ⟨RX0, "draw", "(I)I"⟩
def dkwX0_draw_1 : List UInt8 := [20, 1, 133, 109, 27, 133, 113, 136, 172]
abbrev dktX0_draw_1 : List UInt8 := dkwX0_draw_1 ++ []
def dkwX0_draw_0 : List UInt8 := [42, 20, 1, 127, 42, 180, 0, 116, 105, 20, 1, 129, 97, 20, 1, 131, 113, 181, 0, 116, 42, 180, 0, 116]
abbrev dktX0_draw_0 : List UInt8 := dkwX0_draw_0 ++ dktX0_draw_1
theorem dksX0_draw_0 : cX0_draw.data.toList.drop 0 = dktX0_draw_0 := by decide +kernel
theorem dksX0_draw_1 : cX0_draw.data.toList.drop 24 = dktX0_draw_1 := dk_seg dksX0_draw_0 24 rfl rfl
theorem dX0_draw_0 : decode cX0_draw 0 = .ok (.aload_n 0, 1) := dk_42 (dk_at dksX0_draw_0 0 rfl rfl)
theorem dX0_draw_1 : decode cX0_draw 1 = .ok (.ldc2_w 383, 3) := dk_20 1 127 (dk_at dksX0_draw_0 1 rfl rfl)
theorem dX0_draw_4 : decode cX0_draw 4 = .ok (.aload_n 0, 1) := dk_42 (dk_at dksX0_draw_0 4 rfl rfl)
theorem dX0_draw_5 : decode cX0_draw 5 = .ok (.getfield 116, 3) := dk_180 0 116 (dk_at dksX0_draw_0 5 rfl rfl)
theorem dX0_draw_8 : decode cX0_draw 8 = .ok (.lmul, 1) := dk_105 (dk_at dksX0_draw_0 8 rfl rfl)
theorem dX0_draw_9 : decode cX0_draw 9 = .ok (.ldc2_w 385, 3) := dk_20 1 129 (dk_at dksX0_draw_0 9 rfl rfl)
theorem dX0_draw_12 : decode cX0_draw 12 = .ok (.ladd, 1) := dk_97 (dk_at dksX0_draw_0 12 rfl rfl)
theorem dX0_draw_13 : decode cX0_draw 13 = .ok (.ldc2_w 387, 3) := dk_20 1 131 (dk_at dksX0_draw_0 13 rfl rfl)
theorem dX0_draw_16 : decode cX0_draw 16 = .ok (.lrem, 1) := dk_113 (dk_at dksX0_draw_0 16 rfl rfl)
theorem dX0_draw_17 : decode cX0_draw 17 = .ok (.putfield 116, 3) := dk_181 0 116 (dk_at dksX0_draw_0 17 rfl rfl)
theorem dX0_draw_20 : decode cX0_draw 20 = .ok (.aload_n 0, 1) := dk_42 (dk_at dksX0_draw_0 20 rfl rfl)
theorem dX0_draw_21 : decode cX0_draw 21 = .ok (.getfield 116, 3) := dk_180 0 116 (dk_at dksX0_draw_0 21 rfl rfl)
theorem dX0_draw_24 : decode cX0_draw 24 = .ok (.ldc2_w 389, 3) := dk_20 1 133 (dk_at dksX0_draw_1 0 rfl rfl)
theorem dX0_draw_27 : decode cX0_draw 27 = .ok (.ldiv, 1) := dk_109 (dk_at dksX0_draw_1 3 rfl rfl)
theorem dX0_draw_28 : decode cX0_draw 28 = .ok (.iload_n 1, 1) := dk_27 (dk_at dksX0_draw_1 4 rfl rfl)
theorem dX0_draw_29 : decode cX0_draw 29 = .ok (.i2l, 1) := dk_133 (dk_at dksX0_draw_1 5 rfl rfl)
theorem dX0_draw_30 : decode cX0_draw 30 = .ok (.lrem, 1) := dk_113 (dk_at dksX0_draw_1 6 rfl rfl)
theorem dX0_draw_31 : decode cX0_draw 31 = .ok (.l2i, 1) := dk_136 (dk_at dksX0_draw_1 7 rfl rfl)
theorem dX0_draw_32 : decode cX0_draw 32 = .ok (.ireturn, 1) := dk_172 (dk_at dksX0_draw_1 8 rfl rfl)
abbrev cX0_seed : ByteArray := prog_1_method_66_code
def yX0_seed : MethodName := ⟨RX0, "seed", "(I)Z"⟩
def dkwX0_seed_1 : List UInt8 := [4, 172]
abbrev dktX0_seed_1 : List UInt8 := dkwX0_seed_1 ++ []
def dkwX0_seed_0 : List UInt8 := [27, 156, 0, 17, 42, 7, 182, 0, 129, 155, 0, 7, 4, 167, 0, 4, 3, 172, 42, 27, 133, 181, 0, 116]
abbrev dktX0_seed_0 : List UInt8 := dkwX0_seed_0 ++ dktX0_seed_1
theorem dksX0_seed_0 : cX0_seed.data.toList.drop 0 = dktX0_seed_0 := by decide +kernel
theorem dksX0_seed_1 : cX0_seed.data.toList.drop 24 = dktX0_seed_1 := dk_seg dksX0_seed_0 24 rfl rfl
theorem dX0_seed_0 : decode cX0_seed 0 = .ok (.iload_n 1, 1) := dk_27 (dk_at dksX0_seed_0 0 rfl rfl)
theorem dX0_seed_1 : decode cX0_seed 1 = .ok (.ifCond .ge 17, 3) := dk_156 0 17 (dk_at dksX0_seed_0 1 rfl rfl)
theorem dX0_seed_4 : decode cX0_seed 4 = .ok (.aload_n 0, 1) := dk_42 (dk_at dksX0_seed_0 4 rfl rfl)
theorem dX0_seed_5 : decode cX0_seed 5 = .ok (.iconst 4, 1) := dk_7 (dk_at dksX0_seed_0 5 rfl rfl)
theorem dX0_seed_6 : decode cX0_seed 6 = .ok (.invokevirtual 129, 3) := dk_182 0 129 (dk_at dksX0_seed_0 6 rfl rfl)
theorem dX0_seed_9 : decode cX0_seed 9 = .ok (.ifCond .lt 7, 3) := dk_155 0 7 (dk_at dksX0_seed_0 9 rfl rfl)
theorem dX0_seed_12 : decode cX0_seed 12 = .ok (.iconst 1, 1) := dk_4 (dk_at dksX0_seed_0 12 rfl rfl)
theorem dX0_seed_13 : decode cX0_seed 13 = .ok (.goto 4, 3) := dk_167 0 4 (dk_at dksX0_seed_0 13 rfl rfl)
theorem dX0_seed_16 : decode cX0_seed 16 = .ok (.iconst 0, 1) := dk_3 (dk_at dksX0_seed_0 16 rfl rfl)
theorem dX0_seed_17 : decode cX0_seed 17 = .ok (.ireturn, 1) := dk_172 (dk_at dksX0_seed_0 17 rfl rfl)
theorem dX0_seed_18 : decode cX0_seed 18 = .ok (.aload_n 0, 1) := dk_42 (dk_at dksX0_seed_0 18 rfl rfl)
theorem dX0_seed_19 : decode cX0_seed 19 = .ok (.iload_n 1, 1) := dk_27 (dk_at dksX0_seed_0 19 rfl rfl)
theorem dX0_seed_20 : decode cX0_seed 20 = .ok (.i2l, 1) := dk_133 (dk_at dksX0_seed_0 20 rfl rfl)
theorem dX0_seed_21 : decode cX0_seed 21 = .ok (.putfield 116, 3) := dk_181 0 116 (dk_at dksX0_seed_0 21 rfl rfl)
theorem dX0_seed_24 : decode cX0_seed 24 = .ok (.iconst 1, 1) := dk_4 (dk_at dksX0_seed_1 0 rfl rfl)
theorem dX0_seed_25 : decode cX0_seed 25 = .ok (.ireturn, 1) := dk_172 (dk_at dksX0_seed_1 1 rfl rfl)
abbrev cX0_see : ByteArray := prog_1_method_68_code
def yX0_see : MethodName := ⟨RX0, "see", "()I"⟩
def dkwX0_see_7 : List UInt8 := [132, 3, 1, 167, 255, 183, 42, 180, 0, 162, 172]
abbrev dktX0_see_7 : List UInt8 := dkwX0_see_7 ++ []
def dkwX0_see_6 : List UInt8 := [96, 182, 1, 138, 128, 79, 42, 180, 0, 120, 29, 50, 5, 42, 7, 29, 104, 6, 96, 182, 1, 138, 79]
abbrev dktX0_see_6 : List UInt8 := dkwX0_see_6 ++ dktX0_see_7
def dkwX0_see_5 : List UInt8 := [42, 180, 0, 120, 29, 50, 4, 42, 7, 29, 104, 4, 96, 182, 1, 138, 16, 8, 120, 42, 7, 29, 104, 5]
abbrev dktX0_see_5 : List UInt8 := dkwX0_see_5 ++ dktX0_see_6
def dkwX0_see_4 : List UInt8 := [62, 29, 42, 180, 0, 162, 162, 0, 71, 42, 180, 0, 120, 29, 50, 3, 42, 7, 29, 104, 182, 1, 138, 79]
abbrev dktX0_see_4 : List UInt8 := dkwX0_see_4 ++ dktX0_see_5
def dkwX0_see_3 : List UInt8 := [132, 3, 4, 167, 255, 214, 28, 154, 0, 9, 42, 4, 182, 0, 129, 172, 42, 27, 7, 108, 181, 0, 162, 3]
abbrev dktX0_see_3 : List UInt8 := dkwX0_see_3 ++ dktX0_see_4
def dkwX0_see_2 : List UInt8 := [182, 0, 244, 153, 0, 19, 42, 29, 6, 96, 182, 1, 138, 16, 99, 163, 0, 7, 4, 167, 0, 4, 3, 61]
abbrev dktX0_see_2 : List UInt8 := dkwX0_see_2 ++ dktX0_see_3
def dkwX0_see_1 : List UInt8 := [167, 0, 4, 3, 61, 3, 62, 29, 27, 162, 0, 43, 28, 153, 0, 39, 42, 42, 29, 182, 1, 138]
abbrev dktX0_see_1 : List UInt8 := dkwX0_see_1 ++ dktX0_see_2
def dkwX0_see_0 : List UInt8 := [42, 182, 0, 140, 60, 27, 158, 0, 19, 27, 7, 112, 154, 0, 13, 27, 16, 80, 163, 0, 7, 4]
abbrev dktX0_see_0 : List UInt8 := dkwX0_see_0 ++ dktX0_see_1
theorem dksX0_see_0 : cX0_see.data.toList.drop 0 = dktX0_see_0 := by decide +kernel
theorem dksX0_see_1 : cX0_see.data.toList.drop 22 = dktX0_see_1 := dk_seg dksX0_see_0 22 rfl rfl
theorem dksX0_see_2 : cX0_see.data.toList.drop 44 = dktX0_see_2 := dk_seg dksX0_see_1 22 rfl rfl
theorem dksX0_see_3 : cX0_see.data.toList.drop 68 = dktX0_see_3 := dk_seg dksX0_see_2 24 rfl rfl
theorem dksX0_see_4 : cX0_see.data.toList.drop 92 = dktX0_see_4 := dk_seg dksX0_see_3 24 rfl rfl
theorem dksX0_see_5 : cX0_see.data.toList.drop 116 = dktX0_see_5 := dk_seg dksX0_see_4 24 rfl rfl
theorem dksX0_see_6 : cX0_see.data.toList.drop 140 = dktX0_see_6 := dk_seg dksX0_see_5 24 rfl rfl
theorem dksX0_see_7 : cX0_see.data.toList.drop 163 = dktX0_see_7 := dk_seg dksX0_see_6 23 rfl rfl
theorem dX0_see_0 : decode cX0_see 0 = .ok (.aload_n 0, 1) := dk_42 (dk_at dksX0_see_0 0 rfl rfl)
theorem dX0_see_1 : decode cX0_see 1 = .ok (.invokevirtual 140, 3) := dk_182 0 140 (dk_at dksX0_see_0 1 rfl rfl)
theorem dX0_see_4 : decode cX0_see 4 = .ok (.istore_n 1, 1) := dk_60 (dk_at dksX0_see_0 4 rfl rfl)
theorem dX0_see_5 : decode cX0_see 5 = .ok (.iload_n 1, 1) := dk_27 (dk_at dksX0_see_0 5 rfl rfl)
theorem dX0_see_6 : decode cX0_see 6 = .ok (.ifCond .le 19, 3) := dk_158 0 19 (dk_at dksX0_see_0 6 rfl rfl)
theorem dX0_see_9 : decode cX0_see 9 = .ok (.iload_n 1, 1) := dk_27 (dk_at dksX0_see_0 9 rfl rfl)
theorem dX0_see_10 : decode cX0_see 10 = .ok (.iconst 4, 1) := dk_7 (dk_at dksX0_see_0 10 rfl rfl)
theorem dX0_see_11 : decode cX0_see 11 = .ok (.irem, 1) := dk_112 (dk_at dksX0_see_0 11 rfl rfl)
theorem dX0_see_12 : decode cX0_see 12 = .ok (.ifCond .ne 13, 3) := dk_154 0 13 (dk_at dksX0_see_0 12 rfl rfl)
theorem dX0_see_15 : decode cX0_see 15 = .ok (.iload_n 1, 1) := dk_27 (dk_at dksX0_see_0 15 rfl rfl)
theorem dX0_see_16 : decode cX0_see 16 = .ok (.bipush 80, 2) := dk_16 80 (dk_at dksX0_see_0 16 rfl rfl)
theorem dX0_see_18 : decode cX0_see 18 = .ok (.if_icmp .gt 7, 3) := dk_163 0 7 (dk_at dksX0_see_0 18 rfl rfl)
theorem dX0_see_21 : decode cX0_see 21 = .ok (.iconst 1, 1) := dk_4 (dk_at dksX0_see_0 21 rfl rfl)
theorem dX0_see_22 : decode cX0_see 22 = .ok (.goto 4, 3) := dk_167 0 4 (dk_at dksX0_see_1 0 rfl rfl)
theorem dX0_see_25 : decode cX0_see 25 = .ok (.iconst 0, 1) := dk_3 (dk_at dksX0_see_1 3 rfl rfl)
theorem dX0_see_26 : decode cX0_see 26 = .ok (.istore_n 2, 1) := dk_61 (dk_at dksX0_see_1 4 rfl rfl)
theorem dX0_see_27 : decode cX0_see 27 = .ok (.iconst 0, 1) := dk_3 (dk_at dksX0_see_1 5 rfl rfl)
theorem dX0_see_28 : decode cX0_see 28 = .ok (.istore_n 3, 1) := dk_62 (dk_at dksX0_see_1 6 rfl rfl)
theorem dX0_see_29 : decode cX0_see 29 = .ok (.iload_n 3, 1) := dk_29 (dk_at dksX0_see_1 7 rfl rfl)
theorem dX0_see_30 : decode cX0_see 30 = .ok (.iload_n 1, 1) := dk_27 (dk_at dksX0_see_1 8 rfl rfl)
theorem dX0_see_31 : decode cX0_see 31 = .ok (.if_icmp .ge 43, 3) := dk_162 0 43 (dk_at dksX0_see_1 9 rfl rfl)
theorem dX0_see_34 : decode cX0_see 34 = .ok (.iload_n 2, 1) := dk_28 (dk_at dksX0_see_1 12 rfl rfl)
theorem dX0_see_35 : decode cX0_see 35 = .ok (.ifCond .eq 39, 3) := dk_153 0 39 (dk_at dksX0_see_1 13 rfl rfl)
theorem dX0_see_38 : decode cX0_see 38 = .ok (.aload_n 0, 1) := dk_42 (dk_at dksX0_see_1 16 rfl rfl)
theorem dX0_see_39 : decode cX0_see 39 = .ok (.aload_n 0, 1) := dk_42 (dk_at dksX0_see_1 17 rfl rfl)
theorem dX0_see_40 : decode cX0_see 40 = .ok (.iload_n 3, 1) := dk_29 (dk_at dksX0_see_1 18 rfl rfl)
theorem dX0_see_41 : decode cX0_see 41 = .ok (.invokevirtual 394, 3) := dk_182 1 138 (dk_at dksX0_see_1 19 rfl rfl)
theorem dX0_see_44 : decode cX0_see 44 = .ok (.invokevirtual 244, 3) := dk_182 0 244 (dk_at dksX0_see_2 0 rfl rfl)
theorem dX0_see_47 : decode cX0_see 47 = .ok (.ifCond .eq 19, 3) := dk_153 0 19 (dk_at dksX0_see_2 3 rfl rfl)
theorem dX0_see_50 : decode cX0_see 50 = .ok (.aload_n 0, 1) := dk_42 (dk_at dksX0_see_2 6 rfl rfl)
theorem dX0_see_51 : decode cX0_see 51 = .ok (.iload_n 3, 1) := dk_29 (dk_at dksX0_see_2 7 rfl rfl)
theorem dX0_see_52 : decode cX0_see 52 = .ok (.iconst 3, 1) := dk_6 (dk_at dksX0_see_2 8 rfl rfl)
theorem dX0_see_53 : decode cX0_see 53 = .ok (.iadd, 1) := dk_96 (dk_at dksX0_see_2 9 rfl rfl)
theorem dX0_see_54 : decode cX0_see 54 = .ok (.invokevirtual 394, 3) := dk_182 1 138 (dk_at dksX0_see_2 10 rfl rfl)
theorem dX0_see_57 : decode cX0_see 57 = .ok (.bipush 99, 2) := dk_16 99 (dk_at dksX0_see_2 13 rfl rfl)
theorem dX0_see_59 : decode cX0_see 59 = .ok (.if_icmp .gt 7, 3) := dk_163 0 7 (dk_at dksX0_see_2 15 rfl rfl)
theorem dX0_see_62 : decode cX0_see 62 = .ok (.iconst 1, 1) := dk_4 (dk_at dksX0_see_2 18 rfl rfl)
theorem dX0_see_63 : decode cX0_see 63 = .ok (.goto 4, 3) := dk_167 0 4 (dk_at dksX0_see_2 19 rfl rfl)
theorem dX0_see_66 : decode cX0_see 66 = .ok (.iconst 0, 1) := dk_3 (dk_at dksX0_see_2 22 rfl rfl)
theorem dX0_see_67 : decode cX0_see 67 = .ok (.istore_n 2, 1) := dk_61 (dk_at dksX0_see_2 23 rfl rfl)
theorem dX0_see_68 : decode cX0_see 68 = .ok (.iinc 3 4, 3) := dk_132 3 4 (dk_at dksX0_see_3 0 rfl rfl)
theorem dX0_see_71 : decode cX0_see 71 = .ok (.goto (-42), 3) := dk_167 255 214 (dk_at dksX0_see_3 3 rfl rfl)
theorem dX0_see_74 : decode cX0_see 74 = .ok (.iload_n 2, 1) := dk_28 (dk_at dksX0_see_3 6 rfl rfl)
theorem dX0_see_75 : decode cX0_see 75 = .ok (.ifCond .ne 9, 3) := dk_154 0 9 (dk_at dksX0_see_3 7 rfl rfl)
theorem dX0_see_78 : decode cX0_see 78 = .ok (.aload_n 0, 1) := dk_42 (dk_at dksX0_see_3 10 rfl rfl)
theorem dX0_see_79 : decode cX0_see 79 = .ok (.iconst 1, 1) := dk_4 (dk_at dksX0_see_3 11 rfl rfl)
theorem dX0_see_80 : decode cX0_see 80 = .ok (.invokevirtual 129, 3) := dk_182 0 129 (dk_at dksX0_see_3 12 rfl rfl)
theorem dX0_see_83 : decode cX0_see 83 = .ok (.ireturn, 1) := dk_172 (dk_at dksX0_see_3 15 rfl rfl)
theorem dX0_see_84 : decode cX0_see 84 = .ok (.aload_n 0, 1) := dk_42 (dk_at dksX0_see_3 16 rfl rfl)
theorem dX0_see_85 : decode cX0_see 85 = .ok (.iload_n 1, 1) := dk_27 (dk_at dksX0_see_3 17 rfl rfl)
theorem dX0_see_86 : decode cX0_see 86 = .ok (.iconst 4, 1) := dk_7 (dk_at dksX0_see_3 18 rfl rfl)
theorem dX0_see_87 : decode cX0_see 87 = .ok (.idiv, 1) := dk_108 (dk_at dksX0_see_3 19 rfl rfl)
theorem dX0_see_88 : decode cX0_see 88 = .ok (.putfield 162, 3) := dk_181 0 162 (dk_at dksX0_see_3 20 rfl rfl)
theorem dX0_see_91 : decode cX0_see 91 = .ok (.iconst 0, 1) := dk_3 (dk_at dksX0_see_3 23 rfl rfl)
theorem dX0_see_92 : decode cX0_see 92 = .ok (.istore_n 3, 1) := dk_62 (dk_at dksX0_see_4 0 rfl rfl)
theorem dX0_see_93 : decode cX0_see 93 = .ok (.iload_n 3, 1) := dk_29 (dk_at dksX0_see_4 1 rfl rfl)
theorem dX0_see_94 : decode cX0_see 94 = .ok (.aload_n 0, 1) := dk_42 (dk_at dksX0_see_4 2 rfl rfl)
theorem dX0_see_95 : decode cX0_see 95 = .ok (.getfield 162, 3) := dk_180 0 162 (dk_at dksX0_see_4 3 rfl rfl)
theorem dX0_see_98 : decode cX0_see 98 = .ok (.if_icmp .ge 71, 3) := dk_162 0 71 (dk_at dksX0_see_4 6 rfl rfl)
theorem dX0_see_101 : decode cX0_see 101 = .ok (.aload_n 0, 1) := dk_42 (dk_at dksX0_see_4 9 rfl rfl)
theorem dX0_see_102 : decode cX0_see 102 = .ok (.getfield 120, 3) := dk_180 0 120 (dk_at dksX0_see_4 10 rfl rfl)
theorem dX0_see_105 : decode cX0_see 105 = .ok (.iload_n 3, 1) := dk_29 (dk_at dksX0_see_4 13 rfl rfl)
theorem dX0_see_106 : decode cX0_see 106 = .ok (.aaload, 1) := dk_50 (dk_at dksX0_see_4 14 rfl rfl)
theorem dX0_see_107 : decode cX0_see 107 = .ok (.iconst 0, 1) := dk_3 (dk_at dksX0_see_4 15 rfl rfl)
theorem dX0_see_108 : decode cX0_see 108 = .ok (.aload_n 0, 1) := dk_42 (dk_at dksX0_see_4 16 rfl rfl)
theorem dX0_see_109 : decode cX0_see 109 = .ok (.iconst 4, 1) := dk_7 (dk_at dksX0_see_4 17 rfl rfl)
theorem dX0_see_110 : decode cX0_see 110 = .ok (.iload_n 3, 1) := dk_29 (dk_at dksX0_see_4 18 rfl rfl)
theorem dX0_see_111 : decode cX0_see 111 = .ok (.imul, 1) := dk_104 (dk_at dksX0_see_4 19 rfl rfl)
theorem dX0_see_112 : decode cX0_see 112 = .ok (.invokevirtual 394, 3) := dk_182 1 138 (dk_at dksX0_see_4 20 rfl rfl)
theorem dX0_see_115 : decode cX0_see 115 = .ok (.iastore, 1) := dk_79 (dk_at dksX0_see_4 23 rfl rfl)
theorem dX0_see_116 : decode cX0_see 116 = .ok (.aload_n 0, 1) := dk_42 (dk_at dksX0_see_5 0 rfl rfl)
theorem dX0_see_117 : decode cX0_see 117 = .ok (.getfield 120, 3) := dk_180 0 120 (dk_at dksX0_see_5 1 rfl rfl)
theorem dX0_see_120 : decode cX0_see 120 = .ok (.iload_n 3, 1) := dk_29 (dk_at dksX0_see_5 4 rfl rfl)
theorem dX0_see_121 : decode cX0_see 121 = .ok (.aaload, 1) := dk_50 (dk_at dksX0_see_5 5 rfl rfl)
theorem dX0_see_122 : decode cX0_see 122 = .ok (.iconst 1, 1) := dk_4 (dk_at dksX0_see_5 6 rfl rfl)
theorem dX0_see_123 : decode cX0_see 123 = .ok (.aload_n 0, 1) := dk_42 (dk_at dksX0_see_5 7 rfl rfl)
theorem dX0_see_124 : decode cX0_see 124 = .ok (.iconst 4, 1) := dk_7 (dk_at dksX0_see_5 8 rfl rfl)
theorem dX0_see_125 : decode cX0_see 125 = .ok (.iload_n 3, 1) := dk_29 (dk_at dksX0_see_5 9 rfl rfl)
theorem dX0_see_126 : decode cX0_see 126 = .ok (.imul, 1) := dk_104 (dk_at dksX0_see_5 10 rfl rfl)
theorem dX0_see_127 : decode cX0_see 127 = .ok (.iconst 1, 1) := dk_4 (dk_at dksX0_see_5 11 rfl rfl)
theorem dX0_see_128 : decode cX0_see 128 = .ok (.iadd, 1) := dk_96 (dk_at dksX0_see_5 12 rfl rfl)
theorem dX0_see_129 : decode cX0_see 129 = .ok (.invokevirtual 394, 3) := dk_182 1 138 (dk_at dksX0_see_5 13 rfl rfl)
theorem dX0_see_132 : decode cX0_see 132 = .ok (.bipush 8, 2) := dk_16 8 (dk_at dksX0_see_5 16 rfl rfl)
theorem dX0_see_134 : decode cX0_see 134 = .ok (.ishl, 1) := dk_120 (dk_at dksX0_see_5 18 rfl rfl)
theorem dX0_see_135 : decode cX0_see 135 = .ok (.aload_n 0, 1) := dk_42 (dk_at dksX0_see_5 19 rfl rfl)
theorem dX0_see_136 : decode cX0_see 136 = .ok (.iconst 4, 1) := dk_7 (dk_at dksX0_see_5 20 rfl rfl)
theorem dX0_see_137 : decode cX0_see 137 = .ok (.iload_n 3, 1) := dk_29 (dk_at dksX0_see_5 21 rfl rfl)
theorem dX0_see_138 : decode cX0_see 138 = .ok (.imul, 1) := dk_104 (dk_at dksX0_see_5 22 rfl rfl)
theorem dX0_see_139 : decode cX0_see 139 = .ok (.iconst 2, 1) := dk_5 (dk_at dksX0_see_5 23 rfl rfl)
theorem dX0_see_140 : decode cX0_see 140 = .ok (.iadd, 1) := dk_96 (dk_at dksX0_see_6 0 rfl rfl)
theorem dX0_see_141 : decode cX0_see 141 = .ok (.invokevirtual 394, 3) := dk_182 1 138 (dk_at dksX0_see_6 1 rfl rfl)
theorem dX0_see_144 : decode cX0_see 144 = .ok (.ior, 1) := dk_128 (dk_at dksX0_see_6 4 rfl rfl)
theorem dX0_see_145 : decode cX0_see 145 = .ok (.iastore, 1) := dk_79 (dk_at dksX0_see_6 5 rfl rfl)
theorem dX0_see_146 : decode cX0_see 146 = .ok (.aload_n 0, 1) := dk_42 (dk_at dksX0_see_6 6 rfl rfl)
theorem dX0_see_147 : decode cX0_see 147 = .ok (.getfield 120, 3) := dk_180 0 120 (dk_at dksX0_see_6 7 rfl rfl)
theorem dX0_see_150 : decode cX0_see 150 = .ok (.iload_n 3, 1) := dk_29 (dk_at dksX0_see_6 10 rfl rfl)
theorem dX0_see_151 : decode cX0_see 151 = .ok (.aaload, 1) := dk_50 (dk_at dksX0_see_6 11 rfl rfl)
theorem dX0_see_152 : decode cX0_see 152 = .ok (.iconst 2, 1) := dk_5 (dk_at dksX0_see_6 12 rfl rfl)
theorem dX0_see_153 : decode cX0_see 153 = .ok (.aload_n 0, 1) := dk_42 (dk_at dksX0_see_6 13 rfl rfl)
theorem dX0_see_154 : decode cX0_see 154 = .ok (.iconst 4, 1) := dk_7 (dk_at dksX0_see_6 14 rfl rfl)
theorem dX0_see_155 : decode cX0_see 155 = .ok (.iload_n 3, 1) := dk_29 (dk_at dksX0_see_6 15 rfl rfl)
theorem dX0_see_156 : decode cX0_see 156 = .ok (.imul, 1) := dk_104 (dk_at dksX0_see_6 16 rfl rfl)
theorem dX0_see_157 : decode cX0_see 157 = .ok (.iconst 3, 1) := dk_6 (dk_at dksX0_see_6 17 rfl rfl)
theorem dX0_see_158 : decode cX0_see 158 = .ok (.iadd, 1) := dk_96 (dk_at dksX0_see_6 18 rfl rfl)
theorem dX0_see_159 : decode cX0_see 159 = .ok (.invokevirtual 394, 3) := dk_182 1 138 (dk_at dksX0_see_6 19 rfl rfl)
theorem dX0_see_162 : decode cX0_see 162 = .ok (.iastore, 1) := dk_79 (dk_at dksX0_see_6 22 rfl rfl)
theorem dX0_see_163 : decode cX0_see 163 = .ok (.iinc 3 1, 3) := dk_132 3 1 (dk_at dksX0_see_7 0 rfl rfl)
theorem dX0_see_166 : decode cX0_see 166 = .ok (.goto (-73), 3) := dk_167 255 183 (dk_at dksX0_see_7 3 rfl rfl)
theorem dX0_see_169 : decode cX0_see 169 = .ok (.aload_n 0, 1) := dk_42 (dk_at dksX0_see_7 6 rfl rfl)
theorem dX0_see_170 : decode cX0_see 170 = .ok (.getfield 162, 3) := dk_180 0 162 (dk_at dksX0_see_7 7 rfl rfl)
theorem dX0_see_173 : decode cX0_see 173 = .ok (.ireturn, 1) := dk_172 (dk_at dksX0_see_7 10 rfl rfl)
abbrev cX0_byteAt : ByteArray := prog_1_method_67_code
def yX0_byteAt : MethodName := ⟨RX0, "byteAt", "(I)I"⟩
def dkwX0_byteAt_0 : List UInt8 := [42, 180, 0, 35, 27, 51, 17, 0, 255, 126, 172]
abbrev dktX0_byteAt_0 : List UInt8 := dkwX0_byteAt_0 ++ []
theorem dksX0_byteAt_0 : cX0_byteAt.data.toList.drop 0 = dktX0_byteAt_0 := by decide +kernel
theorem dX0_byteAt_0 : decode cX0_byteAt 0 = .ok (.aload_n 0, 1) := dk_42 (dk_at dksX0_byteAt_0 0 rfl rfl)
theorem dX0_byteAt_1 : decode cX0_byteAt 1 = .ok (.getfield 35, 3) := dk_180 0 35 (dk_at dksX0_byteAt_0 1 rfl rfl)
theorem dX0_byteAt_4 : decode cX0_byteAt 4 = .ok (.iload_n 1, 1) := dk_27 (dk_at dksX0_byteAt_0 4 rfl rfl)
theorem dX0_byteAt_5 : decode cX0_byteAt 5 = .ok (.baload, 1) := dk_51 (dk_at dksX0_byteAt_0 5 rfl rfl)
theorem dX0_byteAt_6 : decode cX0_byteAt 6 = .ok (.sipush 255, 3) := dk_17 0 255 (dk_at dksX0_byteAt_0 6 rfl rfl)
theorem dX0_byteAt_9 : decode cX0_byteAt 9 = .ok (.iand, 1) := dk_126 (dk_at dksX0_byteAt_0 9 rfl rfl)
theorem dX0_byteAt_10 : decode cX0_byteAt 10 = .ok (.ireturn, 1) := dk_172 (dk_at dksX0_byteAt_0 10 rfl rfl)
abbrev cX0_shifts : ByteArray := prog_1_method_70_code
def yX0_shifts : MethodName := ⟨RX0, "shifts", "(II)I"⟩
def dkwX0_shifts_3 : List UInt8 := [2, 172]
abbrev dktX0_shifts_3 : List UInt8 := dkwX0_shifts_3 ++ []
def dkwX0_shifts_2 : List UInt8 := [160, 0, 6, 21, 4, 172, 132, 3, 1, 132, 4, 1, 167, 255, 213, 28, 2, 160, 0, 7, 29, 167, 0, 4]
abbrev dktX0_shifts_2 : List UInt8 := dkwX0_shifts_2 ++ dktX0_shifts_3
def dkwX0_shifts_1 : List UInt8 := [182, 0, 196, 180, 0, 200, 162, 0, 33, 42, 27, 21, 4, 182, 1, 141, 154, 0, 6, 167, 0, 14, 29, 28]
abbrev dktX0_shifts_1 : List UInt8 := dkwX0_shifts_1 ++ dktX0_shifts_2
def dkwX0_shifts_0 : List UInt8 := [42, 27, 182, 0, 244, 154, 0, 5, 2, 172, 3, 62, 3, 54, 4, 21, 4, 42, 180, 0, 31, 27]
abbrev dktX0_shifts_0 : List UInt8 := dkwX0_shifts_0 ++ dktX0_shifts_1
theorem dksX0_shifts_0 : cX0_shifts.data.toList.drop 0 = dktX0_shifts_0 := by decide +kernel
theorem dksX0_shifts_1 : cX0_shifts.data.toList.drop 22 = dktX0_shifts_1 := dk_seg dksX0_shifts_0 22 rfl rfl
theorem dksX0_shifts_2 : cX0_shifts.data.toList.drop 46 = dktX0_shifts_2 := dk_seg dksX0_shifts_1 24 rfl rfl
theorem dksX0_shifts_3 : cX0_shifts.data.toList.drop 70 = dktX0_shifts_3 := dk_seg dksX0_shifts_2 24 rfl rfl
theorem dX0_shifts_0 : decode cX0_shifts 0 = .ok (.aload_n 0, 1) := dk_42 (dk_at dksX0_shifts_0 0 rfl rfl)
theorem dX0_shifts_1 : decode cX0_shifts 1 = .ok (.iload_n 1, 1) := dk_27 (dk_at dksX0_shifts_0 1 rfl rfl)
theorem dX0_shifts_2 : decode cX0_shifts 2 = .ok (.invokevirtual 244, 3) := dk_182 0 244 (dk_at dksX0_shifts_0 2 rfl rfl)
theorem dX0_shifts_5 : decode cX0_shifts 5 = .ok (.ifCond .ne 5, 3) := dk_154 0 5 (dk_at dksX0_shifts_0 5 rfl rfl)
theorem dX0_shifts_8 : decode cX0_shifts 8 = .ok (.iconst (-1), 1) := dk_2 (dk_at dksX0_shifts_0 8 rfl rfl)
theorem dX0_shifts_9 : decode cX0_shifts 9 = .ok (.ireturn, 1) := dk_172 (dk_at dksX0_shifts_0 9 rfl rfl)
theorem dX0_shifts_10 : decode cX0_shifts 10 = .ok (.iconst 0, 1) := dk_3 (dk_at dksX0_shifts_0 10 rfl rfl)
theorem dX0_shifts_11 : decode cX0_shifts 11 = .ok (.istore_n 3, 1) := dk_62 (dk_at dksX0_shifts_0 11 rfl rfl)
theorem dX0_shifts_12 : decode cX0_shifts 12 = .ok (.iconst 0, 1) := dk_3 (dk_at dksX0_shifts_0 12 rfl rfl)
theorem dX0_shifts_13 : decode cX0_shifts 13 = .ok (.istore 4, 2) := dk_54 4 (dk_at dksX0_shifts_0 13 rfl rfl)
theorem dX0_shifts_15 : decode cX0_shifts 15 = .ok (.iload 4, 2) := dk_21 4 (dk_at dksX0_shifts_0 15 rfl rfl)
theorem dX0_shifts_17 : decode cX0_shifts 17 = .ok (.aload_n 0, 1) := dk_42 (dk_at dksX0_shifts_0 17 rfl rfl)
theorem dX0_shifts_18 : decode cX0_shifts 18 = .ok (.getfield 31, 3) := dk_180 0 31 (dk_at dksX0_shifts_0 18 rfl rfl)
theorem dX0_shifts_21 : decode cX0_shifts 21 = .ok (.iload_n 1, 1) := dk_27 (dk_at dksX0_shifts_0 21 rfl rfl)
theorem dX0_shifts_22 : decode cX0_shifts 22 = .ok (.invokevirtual 196, 3) := dk_182 0 196 (dk_at dksX0_shifts_1 0 rfl rfl)
theorem dX0_shifts_25 : decode cX0_shifts 25 = .ok (.getfield 200, 3) := dk_180 0 200 (dk_at dksX0_shifts_1 3 rfl rfl)
theorem dX0_shifts_28 : decode cX0_shifts 28 = .ok (.if_icmp .ge 33, 3) := dk_162 0 33 (dk_at dksX0_shifts_1 6 rfl rfl)
theorem dX0_shifts_31 : decode cX0_shifts 31 = .ok (.aload_n 0, 1) := dk_42 (dk_at dksX0_shifts_1 9 rfl rfl)
theorem dX0_shifts_32 : decode cX0_shifts 32 = .ok (.iload_n 1, 1) := dk_27 (dk_at dksX0_shifts_1 10 rfl rfl)
theorem dX0_shifts_33 : decode cX0_shifts 33 = .ok (.iload 4, 2) := dk_21 4 (dk_at dksX0_shifts_1 11 rfl rfl)
theorem dX0_shifts_35 : decode cX0_shifts 35 = .ok (.invokevirtual 397, 3) := dk_182 1 141 (dk_at dksX0_shifts_1 13 rfl rfl)
theorem dX0_shifts_38 : decode cX0_shifts 38 = .ok (.ifCond .ne 6, 3) := dk_154 0 6 (dk_at dksX0_shifts_1 16 rfl rfl)
theorem dX0_shifts_41 : decode cX0_shifts 41 = .ok (.goto 14, 3) := dk_167 0 14 (dk_at dksX0_shifts_1 19 rfl rfl)
theorem dX0_shifts_44 : decode cX0_shifts 44 = .ok (.iload_n 3, 1) := dk_29 (dk_at dksX0_shifts_1 22 rfl rfl)
theorem dX0_shifts_45 : decode cX0_shifts 45 = .ok (.iload_n 2, 1) := dk_28 (dk_at dksX0_shifts_1 23 rfl rfl)
theorem dX0_shifts_46 : decode cX0_shifts 46 = .ok (.if_icmp .ne 6, 3) := dk_160 0 6 (dk_at dksX0_shifts_2 0 rfl rfl)
theorem dX0_shifts_49 : decode cX0_shifts 49 = .ok (.iload 4, 2) := dk_21 4 (dk_at dksX0_shifts_2 3 rfl rfl)
theorem dX0_shifts_51 : decode cX0_shifts 51 = .ok (.ireturn, 1) := dk_172 (dk_at dksX0_shifts_2 5 rfl rfl)
theorem dX0_shifts_52 : decode cX0_shifts 52 = .ok (.iinc 3 1, 3) := dk_132 3 1 (dk_at dksX0_shifts_2 6 rfl rfl)
theorem dX0_shifts_55 : decode cX0_shifts 55 = .ok (.iinc 4 1, 3) := dk_132 4 1 (dk_at dksX0_shifts_2 9 rfl rfl)
theorem dX0_shifts_58 : decode cX0_shifts 58 = .ok (.goto (-43), 3) := dk_167 255 213 (dk_at dksX0_shifts_2 12 rfl rfl)
theorem dX0_shifts_61 : decode cX0_shifts 61 = .ok (.iload_n 2, 1) := dk_28 (dk_at dksX0_shifts_2 15 rfl rfl)
theorem dX0_shifts_62 : decode cX0_shifts 62 = .ok (.iconst (-1), 1) := dk_2 (dk_at dksX0_shifts_2 16 rfl rfl)
theorem dX0_shifts_63 : decode cX0_shifts 63 = .ok (.if_icmp .ne 7, 3) := dk_160 0 7 (dk_at dksX0_shifts_2 17 rfl rfl)
theorem dX0_shifts_66 : decode cX0_shifts 66 = .ok (.iload_n 3, 1) := dk_29 (dk_at dksX0_shifts_2 20 rfl rfl)
theorem dX0_shifts_67 : decode cX0_shifts 67 = .ok (.goto 4, 3) := dk_167 0 4 (dk_at dksX0_shifts_2 21 rfl rfl)
theorem dX0_shifts_70 : decode cX0_shifts 70 = .ok (.iconst (-1), 1) := dk_2 (dk_at dksX0_shifts_3 0 rfl rfl)
theorem dX0_shifts_71 : decode cX0_shifts 71 = .ok (.ireturn, 1) := dk_172 (dk_at dksX0_shifts_3 1 rfl rfl)
abbrev cX0_isShift : ByteArray := prog_1_method_69_code
def yX0_isShift : MethodName := ⟨RX0, "isShift", "(II)Z"⟩
def dkwX0_isShift_2 : List UInt8 := [172, 132, 3, 1, 167, 255, 206, 4, 172]
abbrev dktX0_isShift_2 : List UInt8 := dkwX0_isShift_2 ++ []
def dkwX0_isShift_1 : List UInt8 := [28, 42, 180, 0, 120, 29, 50, 4, 46, 182, 0, 228, 42, 180, 0, 120, 29, 50, 5, 46, 159, 0, 5, 3]
abbrev dktX0_isShift_1 : List UInt8 := dkwX0_isShift_1 ++ dktX0_isShift_2
def dkwX0_isShift_0 : List UInt8 := [3, 62, 29, 42, 180, 0, 162, 162, 0, 48, 42, 180, 0, 120, 29, 50, 3, 46, 27, 160, 0, 30, 42, 27]
abbrev dktX0_isShift_0 : List UInt8 := dkwX0_isShift_0 ++ dktX0_isShift_1
theorem dksX0_isShift_0 : cX0_isShift.data.toList.drop 0 = dktX0_isShift_0 := by decide +kernel
theorem dksX0_isShift_1 : cX0_isShift.data.toList.drop 24 = dktX0_isShift_1 := dk_seg dksX0_isShift_0 24 rfl rfl
theorem dksX0_isShift_2 : cX0_isShift.data.toList.drop 48 = dktX0_isShift_2 := dk_seg dksX0_isShift_1 24 rfl rfl
theorem dX0_isShift_0 : decode cX0_isShift 0 = .ok (.iconst 0, 1) := dk_3 (dk_at dksX0_isShift_0 0 rfl rfl)
theorem dX0_isShift_1 : decode cX0_isShift 1 = .ok (.istore_n 3, 1) := dk_62 (dk_at dksX0_isShift_0 1 rfl rfl)
theorem dX0_isShift_2 : decode cX0_isShift 2 = .ok (.iload_n 3, 1) := dk_29 (dk_at dksX0_isShift_0 2 rfl rfl)
theorem dX0_isShift_3 : decode cX0_isShift 3 = .ok (.aload_n 0, 1) := dk_42 (dk_at dksX0_isShift_0 3 rfl rfl)
theorem dX0_isShift_4 : decode cX0_isShift 4 = .ok (.getfield 162, 3) := dk_180 0 162 (dk_at dksX0_isShift_0 4 rfl rfl)
theorem dX0_isShift_7 : decode cX0_isShift 7 = .ok (.if_icmp .ge 48, 3) := dk_162 0 48 (dk_at dksX0_isShift_0 7 rfl rfl)
theorem dX0_isShift_10 : decode cX0_isShift 10 = .ok (.aload_n 0, 1) := dk_42 (dk_at dksX0_isShift_0 10 rfl rfl)
theorem dX0_isShift_11 : decode cX0_isShift 11 = .ok (.getfield 120, 3) := dk_180 0 120 (dk_at dksX0_isShift_0 11 rfl rfl)
theorem dX0_isShift_14 : decode cX0_isShift 14 = .ok (.iload_n 3, 1) := dk_29 (dk_at dksX0_isShift_0 14 rfl rfl)
theorem dX0_isShift_15 : decode cX0_isShift 15 = .ok (.aaload, 1) := dk_50 (dk_at dksX0_isShift_0 15 rfl rfl)
theorem dX0_isShift_16 : decode cX0_isShift 16 = .ok (.iconst 0, 1) := dk_3 (dk_at dksX0_isShift_0 16 rfl rfl)
theorem dX0_isShift_17 : decode cX0_isShift 17 = .ok (.iaload, 1) := dk_46 (dk_at dksX0_isShift_0 17 rfl rfl)
theorem dX0_isShift_18 : decode cX0_isShift 18 = .ok (.iload_n 1, 1) := dk_27 (dk_at dksX0_isShift_0 18 rfl rfl)
theorem dX0_isShift_19 : decode cX0_isShift 19 = .ok (.if_icmp .ne 30, 3) := dk_160 0 30 (dk_at dksX0_isShift_0 19 rfl rfl)
theorem dX0_isShift_22 : decode cX0_isShift 22 = .ok (.aload_n 0, 1) := dk_42 (dk_at dksX0_isShift_0 22 rfl rfl)
theorem dX0_isShift_23 : decode cX0_isShift 23 = .ok (.iload_n 1, 1) := dk_27 (dk_at dksX0_isShift_0 23 rfl rfl)
theorem dX0_isShift_24 : decode cX0_isShift 24 = .ok (.iload_n 2, 1) := dk_28 (dk_at dksX0_isShift_1 0 rfl rfl)
theorem dX0_isShift_25 : decode cX0_isShift 25 = .ok (.aload_n 0, 1) := dk_42 (dk_at dksX0_isShift_1 1 rfl rfl)
theorem dX0_isShift_26 : decode cX0_isShift 26 = .ok (.getfield 120, 3) := dk_180 0 120 (dk_at dksX0_isShift_1 2 rfl rfl)
theorem dX0_isShift_29 : decode cX0_isShift 29 = .ok (.iload_n 3, 1) := dk_29 (dk_at dksX0_isShift_1 5 rfl rfl)
theorem dX0_isShift_30 : decode cX0_isShift 30 = .ok (.aaload, 1) := dk_50 (dk_at dksX0_isShift_1 6 rfl rfl)
theorem dX0_isShift_31 : decode cX0_isShift 31 = .ok (.iconst 1, 1) := dk_4 (dk_at dksX0_isShift_1 7 rfl rfl)
theorem dX0_isShift_32 : decode cX0_isShift 32 = .ok (.iaload, 1) := dk_46 (dk_at dksX0_isShift_1 8 rfl rfl)
theorem dX0_isShift_33 : decode cX0_isShift 33 = .ok (.invokevirtual 228, 3) := dk_182 0 228 (dk_at dksX0_isShift_1 9 rfl rfl)
theorem dX0_isShift_36 : decode cX0_isShift 36 = .ok (.aload_n 0, 1) := dk_42 (dk_at dksX0_isShift_1 12 rfl rfl)
theorem dX0_isShift_37 : decode cX0_isShift 37 = .ok (.getfield 120, 3) := dk_180 0 120 (dk_at dksX0_isShift_1 13 rfl rfl)
theorem dX0_isShift_40 : decode cX0_isShift 40 = .ok (.iload_n 3, 1) := dk_29 (dk_at dksX0_isShift_1 16 rfl rfl)
theorem dX0_isShift_41 : decode cX0_isShift 41 = .ok (.aaload, 1) := dk_50 (dk_at dksX0_isShift_1 17 rfl rfl)
theorem dX0_isShift_42 : decode cX0_isShift 42 = .ok (.iconst 2, 1) := dk_5 (dk_at dksX0_isShift_1 18 rfl rfl)
theorem dX0_isShift_43 : decode cX0_isShift 43 = .ok (.iaload, 1) := dk_46 (dk_at dksX0_isShift_1 19 rfl rfl)
theorem dX0_isShift_44 : decode cX0_isShift 44 = .ok (.if_icmp .eq 5, 3) := dk_159 0 5 (dk_at dksX0_isShift_1 20 rfl rfl)
theorem dX0_isShift_47 : decode cX0_isShift 47 = .ok (.iconst 0, 1) := dk_3 (dk_at dksX0_isShift_1 23 rfl rfl)
theorem dX0_isShift_48 : decode cX0_isShift 48 = .ok (.ireturn, 1) := dk_172 (dk_at dksX0_isShift_2 0 rfl rfl)
theorem dX0_isShift_49 : decode cX0_isShift 49 = .ok (.iinc 3 1, 3) := dk_132 3 1 (dk_at dksX0_isShift_2 1 rfl rfl)
theorem dX0_isShift_52 : decode cX0_isShift 52 = .ok (.goto (-50), 3) := dk_167 255 206 (dk_at dksX0_isShift_2 4 rfl rfl)
theorem dX0_isShift_55 : decode cX0_isShift 55 = .ok (.iconst 1, 1) := dk_4 (dk_at dksX0_isShift_2 7 rfl rfl)
theorem dX0_isShift_56 : decode cX0_isShift 56 = .ok (.ireturn, 1) := dk_172 (dk_at dksX0_isShift_2 8 rfl rfl)
abbrev cX0_telling : ByteArray := prog_1_method_72_code
def yX0_telling : MethodName := ⟨RX0, "telling", "(II)I"⟩
def dkwX0_telling_4 : List UInt8 := [62, 21, 6, 54, 4, 132, 5, 1, 167, 255, 198, 28, 154, 0, 7, 29, 167, 0, 5, 21, 4, 172]
abbrev dktX0_telling_4 : List UInt8 := dkwX0_telling_4 ++ []
def dkwX0_telling_3 : List UInt8 := [21, 5, 182, 1, 147, 54, 6, 29, 2, 159, 0, 13, 21, 6, 21, 4, 161, 0, 6, 167, 0, 10, 21, 5]
abbrev dktX0_telling_3 : List UInt8 := dkwX0_telling_3 ++ dktX0_telling_4
def dkwX0_telling_2 : List UInt8 := [180, 0, 69, 180, 1, 3, 42, 180, 0, 31, 27, 182, 0, 196, 180, 0, 200, 96, 162, 0, 40, 42, 27]
abbrev dktX0_telling_2 : List UInt8 := dkwX0_telling_2 ++ dktX0_telling_3
def dkwX0_telling_1 : List UInt8 := [160, 0, 5, 2, 172, 2, 62, 3, 54, 4, 42, 180, 0, 69, 180, 1, 3, 54, 5, 21, 5, 42]
abbrev dktX0_telling_1 : List UInt8 := dkwX0_telling_1 ++ dktX0_telling_2
def dkwX0_telling_0 : List UInt8 := [42, 27, 182, 0, 244, 153, 0, 22, 28, 3, 4, 184, 0, 192, 153, 0, 13, 42, 27, 3, 182, 1, 144, 2]
abbrev dktX0_telling_0 : List UInt8 := dkwX0_telling_0 ++ dktX0_telling_1
theorem dksX0_telling_0 : cX0_telling.data.toList.drop 0 = dktX0_telling_0 := by decide +kernel
theorem dksX0_telling_1 : cX0_telling.data.toList.drop 24 = dktX0_telling_1 := dk_seg dksX0_telling_0 24 rfl rfl
theorem dksX0_telling_2 : cX0_telling.data.toList.drop 46 = dktX0_telling_2 := dk_seg dksX0_telling_1 22 rfl rfl
theorem dksX0_telling_3 : cX0_telling.data.toList.drop 69 = dktX0_telling_3 := dk_seg dksX0_telling_2 23 rfl rfl
theorem dksX0_telling_4 : cX0_telling.data.toList.drop 93 = dktX0_telling_4 := dk_seg dksX0_telling_3 24 rfl rfl
theorem dX0_telling_0 : decode cX0_telling 0 = .ok (.aload_n 0, 1) := dk_42 (dk_at dksX0_telling_0 0 rfl rfl)
theorem dX0_telling_1 : decode cX0_telling 1 = .ok (.iload_n 1, 1) := dk_27 (dk_at dksX0_telling_0 1 rfl rfl)
theorem dX0_telling_2 : decode cX0_telling 2 = .ok (.invokevirtual 244, 3) := dk_182 0 244 (dk_at dksX0_telling_0 2 rfl rfl)
theorem dX0_telling_5 : decode cX0_telling 5 = .ok (.ifCond .eq 22, 3) := dk_153 0 22 (dk_at dksX0_telling_0 5 rfl rfl)
theorem dX0_telling_8 : decode cX0_telling 8 = .ok (.iload_n 2, 1) := dk_28 (dk_at dksX0_telling_0 8 rfl rfl)
theorem dX0_telling_9 : decode cX0_telling 9 = .ok (.iconst 0, 1) := dk_3 (dk_at dksX0_telling_0 9 rfl rfl)
theorem dX0_telling_10 : decode cX0_telling 10 = .ok (.iconst 1, 1) := dk_4 (dk_at dksX0_telling_0 10 rfl rfl)
theorem dX0_telling_11 : decode cX0_telling 11 = .ok (.invokestatic 192, 3) := dk_184 0 192 (dk_at dksX0_telling_0 11 rfl rfl)
theorem dX0_telling_14 : decode cX0_telling 14 = .ok (.ifCond .eq 13, 3) := dk_153 0 13 (dk_at dksX0_telling_0 14 rfl rfl)
theorem dX0_telling_17 : decode cX0_telling 17 = .ok (.aload_n 0, 1) := dk_42 (dk_at dksX0_telling_0 17 rfl rfl)
theorem dX0_telling_18 : decode cX0_telling 18 = .ok (.iload_n 1, 1) := dk_27 (dk_at dksX0_telling_0 18 rfl rfl)
theorem dX0_telling_19 : decode cX0_telling 19 = .ok (.iconst 0, 1) := dk_3 (dk_at dksX0_telling_0 19 rfl rfl)
theorem dX0_telling_20 : decode cX0_telling 20 = .ok (.invokevirtual 400, 3) := dk_182 1 144 (dk_at dksX0_telling_0 20 rfl rfl)
theorem dX0_telling_23 : decode cX0_telling 23 = .ok (.iconst (-1), 1) := dk_2 (dk_at dksX0_telling_0 23 rfl rfl)
theorem dX0_telling_24 : decode cX0_telling 24 = .ok (.if_icmp .ne 5, 3) := dk_160 0 5 (dk_at dksX0_telling_1 0 rfl rfl)
theorem dX0_telling_27 : decode cX0_telling 27 = .ok (.iconst (-1), 1) := dk_2 (dk_at dksX0_telling_1 3 rfl rfl)
theorem dX0_telling_28 : decode cX0_telling 28 = .ok (.ireturn, 1) := dk_172 (dk_at dksX0_telling_1 4 rfl rfl)
theorem dX0_telling_29 : decode cX0_telling 29 = .ok (.iconst (-1), 1) := dk_2 (dk_at dksX0_telling_1 5 rfl rfl)
theorem dX0_telling_30 : decode cX0_telling 30 = .ok (.istore_n 3, 1) := dk_62 (dk_at dksX0_telling_1 6 rfl rfl)
theorem dX0_telling_31 : decode cX0_telling 31 = .ok (.iconst 0, 1) := dk_3 (dk_at dksX0_telling_1 7 rfl rfl)
theorem dX0_telling_32 : decode cX0_telling 32 = .ok (.istore 4, 2) := dk_54 4 (dk_at dksX0_telling_1 8 rfl rfl)
theorem dX0_telling_34 : decode cX0_telling 34 = .ok (.aload_n 0, 1) := dk_42 (dk_at dksX0_telling_1 10 rfl rfl)
theorem dX0_telling_35 : decode cX0_telling 35 = .ok (.getfield 69, 3) := dk_180 0 69 (dk_at dksX0_telling_1 11 rfl rfl)
theorem dX0_telling_38 : decode cX0_telling 38 = .ok (.getfield 259, 3) := dk_180 1 3 (dk_at dksX0_telling_1 14 rfl rfl)
theorem dX0_telling_41 : decode cX0_telling 41 = .ok (.istore 5, 2) := dk_54 5 (dk_at dksX0_telling_1 17 rfl rfl)
theorem dX0_telling_43 : decode cX0_telling 43 = .ok (.iload 5, 2) := dk_21 5 (dk_at dksX0_telling_1 19 rfl rfl)
theorem dX0_telling_45 : decode cX0_telling 45 = .ok (.aload_n 0, 1) := dk_42 (dk_at dksX0_telling_1 21 rfl rfl)
theorem dX0_telling_46 : decode cX0_telling 46 = .ok (.getfield 69, 3) := dk_180 0 69 (dk_at dksX0_telling_2 0 rfl rfl)
theorem dX0_telling_49 : decode cX0_telling 49 = .ok (.getfield 259, 3) := dk_180 1 3 (dk_at dksX0_telling_2 3 rfl rfl)
theorem dX0_telling_52 : decode cX0_telling 52 = .ok (.aload_n 0, 1) := dk_42 (dk_at dksX0_telling_2 6 rfl rfl)
theorem dX0_telling_53 : decode cX0_telling 53 = .ok (.getfield 31, 3) := dk_180 0 31 (dk_at dksX0_telling_2 7 rfl rfl)
theorem dX0_telling_56 : decode cX0_telling 56 = .ok (.iload_n 1, 1) := dk_27 (dk_at dksX0_telling_2 10 rfl rfl)
theorem dX0_telling_57 : decode cX0_telling 57 = .ok (.invokevirtual 196, 3) := dk_182 0 196 (dk_at dksX0_telling_2 11 rfl rfl)
theorem dX0_telling_60 : decode cX0_telling 60 = .ok (.getfield 200, 3) := dk_180 0 200 (dk_at dksX0_telling_2 14 rfl rfl)
theorem dX0_telling_63 : decode cX0_telling 63 = .ok (.iadd, 1) := dk_96 (dk_at dksX0_telling_2 17 rfl rfl)
theorem dX0_telling_64 : decode cX0_telling 64 = .ok (.if_icmp .ge 40, 3) := dk_162 0 40 (dk_at dksX0_telling_2 18 rfl rfl)
theorem dX0_telling_67 : decode cX0_telling 67 = .ok (.aload_n 0, 1) := dk_42 (dk_at dksX0_telling_2 21 rfl rfl)
theorem dX0_telling_68 : decode cX0_telling 68 = .ok (.iload_n 1, 1) := dk_27 (dk_at dksX0_telling_2 22 rfl rfl)
theorem dX0_telling_69 : decode cX0_telling 69 = .ok (.iload 5, 2) := dk_21 5 (dk_at dksX0_telling_3 0 rfl rfl)
theorem dX0_telling_71 : decode cX0_telling 71 = .ok (.invokevirtual 403, 3) := dk_182 1 147 (dk_at dksX0_telling_3 2 rfl rfl)
theorem dX0_telling_74 : decode cX0_telling 74 = .ok (.istore 6, 2) := dk_54 6 (dk_at dksX0_telling_3 5 rfl rfl)
theorem dX0_telling_76 : decode cX0_telling 76 = .ok (.iload_n 3, 1) := dk_29 (dk_at dksX0_telling_3 7 rfl rfl)
theorem dX0_telling_77 : decode cX0_telling 77 = .ok (.iconst (-1), 1) := dk_2 (dk_at dksX0_telling_3 8 rfl rfl)
theorem dX0_telling_78 : decode cX0_telling 78 = .ok (.if_icmp .eq 13, 3) := dk_159 0 13 (dk_at dksX0_telling_3 9 rfl rfl)
theorem dX0_telling_81 : decode cX0_telling 81 = .ok (.iload 6, 2) := dk_21 6 (dk_at dksX0_telling_3 12 rfl rfl)
theorem dX0_telling_83 : decode cX0_telling 83 = .ok (.iload 4, 2) := dk_21 4 (dk_at dksX0_telling_3 14 rfl rfl)
theorem dX0_telling_85 : decode cX0_telling 85 = .ok (.if_icmp .lt 6, 3) := dk_161 0 6 (dk_at dksX0_telling_3 16 rfl rfl)
theorem dX0_telling_88 : decode cX0_telling 88 = .ok (.goto 10, 3) := dk_167 0 10 (dk_at dksX0_telling_3 19 rfl rfl)
theorem dX0_telling_91 : decode cX0_telling 91 = .ok (.iload 5, 2) := dk_21 5 (dk_at dksX0_telling_3 22 rfl rfl)
theorem dX0_telling_93 : decode cX0_telling 93 = .ok (.istore_n 3, 1) := dk_62 (dk_at dksX0_telling_4 0 rfl rfl)
theorem dX0_telling_94 : decode cX0_telling 94 = .ok (.iload 6, 2) := dk_21 6 (dk_at dksX0_telling_4 1 rfl rfl)
theorem dX0_telling_96 : decode cX0_telling 96 = .ok (.istore 4, 2) := dk_54 4 (dk_at dksX0_telling_4 3 rfl rfl)
theorem dX0_telling_98 : decode cX0_telling 98 = .ok (.iinc 5 1, 3) := dk_132 5 1 (dk_at dksX0_telling_4 5 rfl rfl)
theorem dX0_telling_101 : decode cX0_telling 101 = .ok (.goto (-58), 3) := dk_167 255 198 (dk_at dksX0_telling_4 8 rfl rfl)
theorem dX0_telling_104 : decode cX0_telling 104 = .ok (.iload_n 2, 1) := dk_28 (dk_at dksX0_telling_4 11 rfl rfl)
theorem dX0_telling_105 : decode cX0_telling 105 = .ok (.ifCond .ne 7, 3) := dk_154 0 7 (dk_at dksX0_telling_4 12 rfl rfl)
theorem dX0_telling_108 : decode cX0_telling 108 = .ok (.iload_n 3, 1) := dk_29 (dk_at dksX0_telling_4 15 rfl rfl)
theorem dX0_telling_109 : decode cX0_telling 109 = .ok (.goto 5, 3) := dk_167 0 5 (dk_at dksX0_telling_4 16 rfl rfl)
theorem dX0_telling_112 : decode cX0_telling 112 = .ok (.iload 4, 2) := dk_21 4 (dk_at dksX0_telling_4 19 rfl rfl)
theorem dX0_telling_114 : decode cX0_telling 114 = .ok (.ireturn, 1) := dk_172 (dk_at dksX0_telling_4 21 rfl rfl)
abbrev cX0_alike : ByteArray := prog_1_method_71_code
def yX0_alike : MethodName := ⟨RX0, "alike", "(II)I"⟩
def dkwX0_alike_3 : List UInt8 := [167, 255, 195, 21, 4, 172]
abbrev dktX0_alike_3 : List UInt8 := dkwX0_alike_3 ++ []
def dkwX0_alike_2 : List UInt8 := [54, 6, 45, 21, 6, 92, 46, 4, 96, 79, 21, 4, 45, 21, 6, 46, 184, 1, 43, 54, 4, 132, 5, 1]
abbrev dktX0_alike_2 : List UInt8 := dkwX0_alike_2 ++ dktX0_alike_3
def dkwX0_alike_1 : List UInt8 := [162, 0, 51, 42, 27, 21, 5, 182, 1, 141, 154, 0, 6, 167, 0, 32, 42, 27, 21, 5, 28, 182, 0, 228]
abbrev dktX0_alike_1 : List UInt8 := dkwX0_alike_1 ++ dktX0_alike_2
def dkwX0_alike_0 : List UInt8 := [16, 100, 188, 10, 78, 3, 54, 4, 3, 54, 5, 21, 5, 42, 180, 0, 31, 27, 182, 0, 196, 180, 0, 200]
abbrev dktX0_alike_0 : List UInt8 := dkwX0_alike_0 ++ dktX0_alike_1
theorem dksX0_alike_0 : cX0_alike.data.toList.drop 0 = dktX0_alike_0 := by decide +kernel
theorem dksX0_alike_1 : cX0_alike.data.toList.drop 24 = dktX0_alike_1 := dk_seg dksX0_alike_0 24 rfl rfl
theorem dksX0_alike_2 : cX0_alike.data.toList.drop 48 = dktX0_alike_2 := dk_seg dksX0_alike_1 24 rfl rfl
theorem dksX0_alike_3 : cX0_alike.data.toList.drop 72 = dktX0_alike_3 := dk_seg dksX0_alike_2 24 rfl rfl
theorem dX0_alike_0 : decode cX0_alike 0 = .ok (.bipush 100, 2) := dk_16 100 (dk_at dksX0_alike_0 0 rfl rfl)
theorem dX0_alike_2 : decode cX0_alike 2 = .ok (.newarray .int, 2) := dk_188_10 (dk_at dksX0_alike_0 2 rfl rfl)
theorem dX0_alike_4 : decode cX0_alike 4 = .ok (.astore_n 3, 1) := dk_78 (dk_at dksX0_alike_0 4 rfl rfl)
theorem dX0_alike_5 : decode cX0_alike 5 = .ok (.iconst 0, 1) := dk_3 (dk_at dksX0_alike_0 5 rfl rfl)
theorem dX0_alike_6 : decode cX0_alike 6 = .ok (.istore 4, 2) := dk_54 4 (dk_at dksX0_alike_0 6 rfl rfl)
theorem dX0_alike_8 : decode cX0_alike 8 = .ok (.iconst 0, 1) := dk_3 (dk_at dksX0_alike_0 8 rfl rfl)
theorem dX0_alike_9 : decode cX0_alike 9 = .ok (.istore 5, 2) := dk_54 5 (dk_at dksX0_alike_0 9 rfl rfl)
theorem dX0_alike_11 : decode cX0_alike 11 = .ok (.iload 5, 2) := dk_21 5 (dk_at dksX0_alike_0 11 rfl rfl)
theorem dX0_alike_13 : decode cX0_alike 13 = .ok (.aload_n 0, 1) := dk_42 (dk_at dksX0_alike_0 13 rfl rfl)
theorem dX0_alike_14 : decode cX0_alike 14 = .ok (.getfield 31, 3) := dk_180 0 31 (dk_at dksX0_alike_0 14 rfl rfl)
theorem dX0_alike_17 : decode cX0_alike 17 = .ok (.iload_n 1, 1) := dk_27 (dk_at dksX0_alike_0 17 rfl rfl)
theorem dX0_alike_18 : decode cX0_alike 18 = .ok (.invokevirtual 196, 3) := dk_182 0 196 (dk_at dksX0_alike_0 18 rfl rfl)
theorem dX0_alike_21 : decode cX0_alike 21 = .ok (.getfield 200, 3) := dk_180 0 200 (dk_at dksX0_alike_0 21 rfl rfl)
theorem dX0_alike_24 : decode cX0_alike 24 = .ok (.if_icmp .ge 51, 3) := dk_162 0 51 (dk_at dksX0_alike_1 0 rfl rfl)
theorem dX0_alike_27 : decode cX0_alike 27 = .ok (.aload_n 0, 1) := dk_42 (dk_at dksX0_alike_1 3 rfl rfl)
theorem dX0_alike_28 : decode cX0_alike 28 = .ok (.iload_n 1, 1) := dk_27 (dk_at dksX0_alike_1 4 rfl rfl)
theorem dX0_alike_29 : decode cX0_alike 29 = .ok (.iload 5, 2) := dk_21 5 (dk_at dksX0_alike_1 5 rfl rfl)
theorem dX0_alike_31 : decode cX0_alike 31 = .ok (.invokevirtual 397, 3) := dk_182 1 141 (dk_at dksX0_alike_1 7 rfl rfl)
theorem dX0_alike_34 : decode cX0_alike 34 = .ok (.ifCond .ne 6, 3) := dk_154 0 6 (dk_at dksX0_alike_1 10 rfl rfl)
theorem dX0_alike_37 : decode cX0_alike 37 = .ok (.goto 32, 3) := dk_167 0 32 (dk_at dksX0_alike_1 13 rfl rfl)
theorem dX0_alike_40 : decode cX0_alike 40 = .ok (.aload_n 0, 1) := dk_42 (dk_at dksX0_alike_1 16 rfl rfl)
theorem dX0_alike_41 : decode cX0_alike 41 = .ok (.iload_n 1, 1) := dk_27 (dk_at dksX0_alike_1 17 rfl rfl)
theorem dX0_alike_42 : decode cX0_alike 42 = .ok (.iload 5, 2) := dk_21 5 (dk_at dksX0_alike_1 18 rfl rfl)
theorem dX0_alike_44 : decode cX0_alike 44 = .ok (.iload_n 2, 1) := dk_28 (dk_at dksX0_alike_1 20 rfl rfl)
theorem dX0_alike_45 : decode cX0_alike 45 = .ok (.invokevirtual 228, 3) := dk_182 0 228 (dk_at dksX0_alike_1 21 rfl rfl)
theorem dX0_alike_48 : decode cX0_alike 48 = .ok (.istore 6, 2) := dk_54 6 (dk_at dksX0_alike_2 0 rfl rfl)
theorem dX0_alike_50 : decode cX0_alike 50 = .ok (.aload_n 3, 1) := dk_45 (dk_at dksX0_alike_2 2 rfl rfl)
theorem dX0_alike_51 : decode cX0_alike 51 = .ok (.iload 6, 2) := dk_21 6 (dk_at dksX0_alike_2 3 rfl rfl)
theorem dX0_alike_53 : decode cX0_alike 53 = .ok (.dup2, 1) := dk_92 (dk_at dksX0_alike_2 5 rfl rfl)
theorem dX0_alike_54 : decode cX0_alike 54 = .ok (.iaload, 1) := dk_46 (dk_at dksX0_alike_2 6 rfl rfl)
theorem dX0_alike_55 : decode cX0_alike 55 = .ok (.iconst 1, 1) := dk_4 (dk_at dksX0_alike_2 7 rfl rfl)
theorem dX0_alike_56 : decode cX0_alike 56 = .ok (.iadd, 1) := dk_96 (dk_at dksX0_alike_2 8 rfl rfl)
theorem dX0_alike_57 : decode cX0_alike 57 = .ok (.iastore, 1) := dk_79 (dk_at dksX0_alike_2 9 rfl rfl)
theorem dX0_alike_58 : decode cX0_alike 58 = .ok (.iload 4, 2) := dk_21 4 (dk_at dksX0_alike_2 10 rfl rfl)
theorem dX0_alike_60 : decode cX0_alike 60 = .ok (.aload_n 3, 1) := dk_45 (dk_at dksX0_alike_2 12 rfl rfl)
theorem dX0_alike_61 : decode cX0_alike 61 = .ok (.iload 6, 2) := dk_21 6 (dk_at dksX0_alike_2 13 rfl rfl)
theorem dX0_alike_63 : decode cX0_alike 63 = .ok (.iaload, 1) := dk_46 (dk_at dksX0_alike_2 15 rfl rfl)
theorem dX0_alike_64 : decode cX0_alike 64 = .ok (.invokestatic 299, 3) := dk_184 1 43 (dk_at dksX0_alike_2 16 rfl rfl)
theorem dX0_alike_67 : decode cX0_alike 67 = .ok (.istore 4, 2) := dk_54 4 (dk_at dksX0_alike_2 19 rfl rfl)
theorem dX0_alike_69 : decode cX0_alike 69 = .ok (.iinc 5 1, 3) := dk_132 5 1 (dk_at dksX0_alike_2 21 rfl rfl)
theorem dX0_alike_72 : decode cX0_alike 72 = .ok (.goto (-61), 3) := dk_167 255 195 (dk_at dksX0_alike_3 0 rfl rfl)
theorem dX0_alike_75 : decode cX0_alike 75 = .ok (.iload 4, 2) := dk_21 4 (dk_at dksX0_alike_3 3 rfl rfl)
theorem dX0_alike_77 : decode cX0_alike 77 = .ok (.ireturn, 1) := dk_172 (dk_at dksX0_alike_3 5 rfl rfl)
abbrev cX0_ask : ByteArray := prog_1_method_74_code
def yX0_ask : MethodName := ⟨RX0, "ask", "()J"⟩
def dkwX0_ask_6 : List UInt8 := [180, 1, 150, 4, 96, 181, 1, 150, 167, 255, 168, 44, 182, 1, 165, 173]
abbrev dktX0_ask_6 : List UInt8 := dkwX0_ask_6 ++ []
def dkwX0_ask_5 : List UInt8 := [42, 180, 1, 150, 16, 24, 108, 133, 80, 44, 42, 180, 1, 150, 42, 180, 0, 55, 182, 1, 159, 42, 89]
abbrev dktX0_ask_5 : List UInt8 := dkwX0_ask_5 ++ dktX0_ask_6
def dkwX0_ask_4 : List UInt8 := [180, 0, 55, 180, 0, 205, 4, 42, 180, 1, 150, 16, 24, 112, 133, 80, 42, 180, 0, 55, 180, 0, 205, 5]
abbrev dktX0_ask_4 : List UInt8 := dkwX0_ask_4 ++ dktX0_ask_5
def dkwX0_ask_3 : List UInt8 := [17, 0, 200, 96, 163, 0, 76, 42, 180, 0, 55, 180, 0, 205, 3, 42, 180, 1, 150, 133, 80, 42]
abbrev dktX0_ask_3 : List UInt8 := dkwX0_ask_3 ++ dktX0_ask_4
def dkwX0_ask_2 : List UInt8 := [42, 42, 180, 0, 69, 180, 1, 3, 181, 1, 150, 42, 180, 1, 150, 42, 180, 0, 69, 180, 1, 3]
abbrev dktX0_ask_2 : List UInt8 := dkwX0_ask_2 ++ dktX0_ask_3
def dkwX0_ask_1 : List UInt8 := [167, 0, 24, 78, 42, 45, 180, 0, 150, 181, 0, 137, 42, 45, 180, 0, 153, 181, 0, 39, 20, 1, 157, 173]
abbrev dktX0_ask_1 : List UInt8 := dkwX0_ask_1 ++ dktX0_ask_2
def dkwX0_ask_0 : List UInt8 := [42, 182, 0, 140, 60, 42, 3, 181, 0, 137, 42, 2, 181, 0, 39, 42, 180, 0, 48, 27, 182, 1, 153, 77]
abbrev dktX0_ask_0 : List UInt8 := dkwX0_ask_0 ++ dktX0_ask_1
theorem dksX0_ask_0 : cX0_ask.data.toList.drop 0 = dktX0_ask_0 := by decide +kernel
theorem dksX0_ask_1 : cX0_ask.data.toList.drop 24 = dktX0_ask_1 := dk_seg dksX0_ask_0 24 rfl rfl
theorem dksX0_ask_2 : cX0_ask.data.toList.drop 48 = dktX0_ask_2 := dk_seg dksX0_ask_1 24 rfl rfl
theorem dksX0_ask_3 : cX0_ask.data.toList.drop 70 = dktX0_ask_3 := dk_seg dksX0_ask_2 22 rfl rfl
theorem dksX0_ask_4 : cX0_ask.data.toList.drop 92 = dktX0_ask_4 := dk_seg dksX0_ask_3 22 rfl rfl
theorem dksX0_ask_5 : cX0_ask.data.toList.drop 116 = dktX0_ask_5 := dk_seg dksX0_ask_4 24 rfl rfl
theorem dksX0_ask_6 : cX0_ask.data.toList.drop 139 = dktX0_ask_6 := dk_seg dksX0_ask_5 23 rfl rfl
theorem dX0_ask_0 : decode cX0_ask 0 = .ok (.aload_n 0, 1) := dk_42 (dk_at dksX0_ask_0 0 rfl rfl)
theorem dX0_ask_1 : decode cX0_ask 1 = .ok (.invokevirtual 140, 3) := dk_182 0 140 (dk_at dksX0_ask_0 1 rfl rfl)
theorem dX0_ask_4 : decode cX0_ask 4 = .ok (.istore_n 1, 1) := dk_60 (dk_at dksX0_ask_0 4 rfl rfl)
theorem dX0_ask_5 : decode cX0_ask 5 = .ok (.aload_n 0, 1) := dk_42 (dk_at dksX0_ask_0 5 rfl rfl)
theorem dX0_ask_6 : decode cX0_ask 6 = .ok (.iconst 0, 1) := dk_3 (dk_at dksX0_ask_0 6 rfl rfl)
theorem dX0_ask_7 : decode cX0_ask 7 = .ok (.putfield 137, 3) := dk_181 0 137 (dk_at dksX0_ask_0 7 rfl rfl)
theorem dX0_ask_10 : decode cX0_ask 10 = .ok (.aload_n 0, 1) := dk_42 (dk_at dksX0_ask_0 10 rfl rfl)
theorem dX0_ask_11 : decode cX0_ask 11 = .ok (.iconst (-1), 1) := dk_2 (dk_at dksX0_ask_0 11 rfl rfl)
theorem dX0_ask_12 : decode cX0_ask 12 = .ok (.putfield 39, 3) := dk_181 0 39 (dk_at dksX0_ask_0 12 rfl rfl)
theorem dX0_ask_15 : decode cX0_ask 15 = .ok (.aload_n 0, 1) := dk_42 (dk_at dksX0_ask_0 15 rfl rfl)
theorem dX0_ask_16 : decode cX0_ask 16 = .ok (.getfield 48, 3) := dk_180 0 48 (dk_at dksX0_ask_0 16 rfl rfl)
theorem dX0_ask_19 : decode cX0_ask 19 = .ok (.iload_n 1, 1) := dk_27 (dk_at dksX0_ask_0 19 rfl rfl)
theorem dX0_ask_20 : decode cX0_ask 20 = .ok (.invokevirtual 409, 3) := dk_182 1 153 (dk_at dksX0_ask_0 20 rfl rfl)
theorem dX0_ask_23 : decode cX0_ask 23 = .ok (.astore_n 2, 1) := dk_77 (dk_at dksX0_ask_0 23 rfl rfl)
theorem dX0_ask_24 : decode cX0_ask 24 = .ok (.goto 24, 3) := dk_167 0 24 (dk_at dksX0_ask_1 0 rfl rfl)
theorem dX0_ask_27 : decode cX0_ask 27 = .ok (.astore_n 3, 1) := dk_78 (dk_at dksX0_ask_1 3 rfl rfl)
theorem dX0_ask_28 : decode cX0_ask 28 = .ok (.aload_n 0, 1) := dk_42 (dk_at dksX0_ask_1 4 rfl rfl)
theorem dX0_ask_29 : decode cX0_ask 29 = .ok (.aload_n 3, 1) := dk_45 (dk_at dksX0_ask_1 5 rfl rfl)
theorem dX0_ask_30 : decode cX0_ask 30 = .ok (.getfield 150, 3) := dk_180 0 150 (dk_at dksX0_ask_1 6 rfl rfl)
theorem dX0_ask_33 : decode cX0_ask 33 = .ok (.putfield 137, 3) := dk_181 0 137 (dk_at dksX0_ask_1 9 rfl rfl)
theorem dX0_ask_36 : decode cX0_ask 36 = .ok (.aload_n 0, 1) := dk_42 (dk_at dksX0_ask_1 12 rfl rfl)
theorem dX0_ask_37 : decode cX0_ask 37 = .ok (.aload_n 3, 1) := dk_45 (dk_at dksX0_ask_1 13 rfl rfl)
theorem dX0_ask_38 : decode cX0_ask 38 = .ok (.getfield 153, 3) := dk_180 0 153 (dk_at dksX0_ask_1 14 rfl rfl)
theorem dX0_ask_41 : decode cX0_ask 41 = .ok (.putfield 39, 3) := dk_181 0 39 (dk_at dksX0_ask_1 17 rfl rfl)
theorem dX0_ask_44 : decode cX0_ask 44 = .ok (.ldc2_w 413, 3) := dk_20 1 157 (dk_at dksX0_ask_1 20 rfl rfl)
theorem dX0_ask_47 : decode cX0_ask 47 = .ok (.lreturn, 1) := dk_173 (dk_at dksX0_ask_1 23 rfl rfl)
theorem dX0_ask_48 : decode cX0_ask 48 = .ok (.aload_n 0, 1) := dk_42 (dk_at dksX0_ask_2 0 rfl rfl)
theorem dX0_ask_49 : decode cX0_ask 49 = .ok (.aload_n 0, 1) := dk_42 (dk_at dksX0_ask_2 1 rfl rfl)
theorem dX0_ask_50 : decode cX0_ask 50 = .ok (.getfield 69, 3) := dk_180 0 69 (dk_at dksX0_ask_2 2 rfl rfl)
theorem dX0_ask_53 : decode cX0_ask 53 = .ok (.getfield 259, 3) := dk_180 1 3 (dk_at dksX0_ask_2 5 rfl rfl)
theorem dX0_ask_56 : decode cX0_ask 56 = .ok (.putfield 406, 3) := dk_181 1 150 (dk_at dksX0_ask_2 8 rfl rfl)
theorem dX0_ask_59 : decode cX0_ask 59 = .ok (.aload_n 0, 1) := dk_42 (dk_at dksX0_ask_2 11 rfl rfl)
theorem dX0_ask_60 : decode cX0_ask 60 = .ok (.getfield 406, 3) := dk_180 1 150 (dk_at dksX0_ask_2 12 rfl rfl)
theorem dX0_ask_63 : decode cX0_ask 63 = .ok (.aload_n 0, 1) := dk_42 (dk_at dksX0_ask_2 15 rfl rfl)
theorem dX0_ask_64 : decode cX0_ask 64 = .ok (.getfield 69, 3) := dk_180 0 69 (dk_at dksX0_ask_2 16 rfl rfl)
theorem dX0_ask_67 : decode cX0_ask 67 = .ok (.getfield 259, 3) := dk_180 1 3 (dk_at dksX0_ask_2 19 rfl rfl)
theorem dX0_ask_70 : decode cX0_ask 70 = .ok (.sipush 200, 3) := dk_17 0 200 (dk_at dksX0_ask_3 0 rfl rfl)
theorem dX0_ask_73 : decode cX0_ask 73 = .ok (.iadd, 1) := dk_96 (dk_at dksX0_ask_3 3 rfl rfl)
theorem dX0_ask_74 : decode cX0_ask 74 = .ok (.if_icmp .gt 76, 3) := dk_163 0 76 (dk_at dksX0_ask_3 4 rfl rfl)
theorem dX0_ask_77 : decode cX0_ask 77 = .ok (.aload_n 0, 1) := dk_42 (dk_at dksX0_ask_3 7 rfl rfl)
theorem dX0_ask_78 : decode cX0_ask 78 = .ok (.getfield 55, 3) := dk_180 0 55 (dk_at dksX0_ask_3 8 rfl rfl)
theorem dX0_ask_81 : decode cX0_ask 81 = .ok (.getfield 205, 3) := dk_180 0 205 (dk_at dksX0_ask_3 11 rfl rfl)
theorem dX0_ask_84 : decode cX0_ask 84 = .ok (.iconst 0, 1) := dk_3 (dk_at dksX0_ask_3 14 rfl rfl)
theorem dX0_ask_85 : decode cX0_ask 85 = .ok (.aload_n 0, 1) := dk_42 (dk_at dksX0_ask_3 15 rfl rfl)
theorem dX0_ask_86 : decode cX0_ask 86 = .ok (.getfield 406, 3) := dk_180 1 150 (dk_at dksX0_ask_3 16 rfl rfl)
theorem dX0_ask_89 : decode cX0_ask 89 = .ok (.i2l, 1) := dk_133 (dk_at dksX0_ask_3 19 rfl rfl)
theorem dX0_ask_90 : decode cX0_ask 90 = .ok (.lastore, 1) := dk_80 (dk_at dksX0_ask_3 20 rfl rfl)
theorem dX0_ask_91 : decode cX0_ask 91 = .ok (.aload_n 0, 1) := dk_42 (dk_at dksX0_ask_3 21 rfl rfl)
theorem dX0_ask_92 : decode cX0_ask 92 = .ok (.getfield 55, 3) := dk_180 0 55 (dk_at dksX0_ask_4 0 rfl rfl)
theorem dX0_ask_95 : decode cX0_ask 95 = .ok (.getfield 205, 3) := dk_180 0 205 (dk_at dksX0_ask_4 3 rfl rfl)
theorem dX0_ask_98 : decode cX0_ask 98 = .ok (.iconst 1, 1) := dk_4 (dk_at dksX0_ask_4 6 rfl rfl)
theorem dX0_ask_99 : decode cX0_ask 99 = .ok (.aload_n 0, 1) := dk_42 (dk_at dksX0_ask_4 7 rfl rfl)
theorem dX0_ask_100 : decode cX0_ask 100 = .ok (.getfield 406, 3) := dk_180 1 150 (dk_at dksX0_ask_4 8 rfl rfl)
theorem dX0_ask_103 : decode cX0_ask 103 = .ok (.bipush 24, 2) := dk_16 24 (dk_at dksX0_ask_4 11 rfl rfl)
theorem dX0_ask_105 : decode cX0_ask 105 = .ok (.irem, 1) := dk_112 (dk_at dksX0_ask_4 13 rfl rfl)
theorem dX0_ask_106 : decode cX0_ask 106 = .ok (.i2l, 1) := dk_133 (dk_at dksX0_ask_4 14 rfl rfl)
theorem dX0_ask_107 : decode cX0_ask 107 = .ok (.lastore, 1) := dk_80 (dk_at dksX0_ask_4 15 rfl rfl)
theorem dX0_ask_108 : decode cX0_ask 108 = .ok (.aload_n 0, 1) := dk_42 (dk_at dksX0_ask_4 16 rfl rfl)
theorem dX0_ask_109 : decode cX0_ask 109 = .ok (.getfield 55, 3) := dk_180 0 55 (dk_at dksX0_ask_4 17 rfl rfl)
theorem dX0_ask_112 : decode cX0_ask 112 = .ok (.getfield 205, 3) := dk_180 0 205 (dk_at dksX0_ask_4 20 rfl rfl)
theorem dX0_ask_115 : decode cX0_ask 115 = .ok (.iconst 2, 1) := dk_5 (dk_at dksX0_ask_4 23 rfl rfl)
theorem dX0_ask_116 : decode cX0_ask 116 = .ok (.aload_n 0, 1) := dk_42 (dk_at dksX0_ask_5 0 rfl rfl)
theorem dX0_ask_117 : decode cX0_ask 117 = .ok (.getfield 406, 3) := dk_180 1 150 (dk_at dksX0_ask_5 1 rfl rfl)
theorem dX0_ask_120 : decode cX0_ask 120 = .ok (.bipush 24, 2) := dk_16 24 (dk_at dksX0_ask_5 4 rfl rfl)
theorem dX0_ask_122 : decode cX0_ask 122 = .ok (.idiv, 1) := dk_108 (dk_at dksX0_ask_5 6 rfl rfl)
theorem dX0_ask_123 : decode cX0_ask 123 = .ok (.i2l, 1) := dk_133 (dk_at dksX0_ask_5 7 rfl rfl)
theorem dX0_ask_124 : decode cX0_ask 124 = .ok (.lastore, 1) := dk_80 (dk_at dksX0_ask_5 8 rfl rfl)
theorem dX0_ask_125 : decode cX0_ask 125 = .ok (.aload_n 2, 1) := dk_44 (dk_at dksX0_ask_5 9 rfl rfl)
theorem dX0_ask_126 : decode cX0_ask 126 = .ok (.aload_n 0, 1) := dk_42 (dk_at dksX0_ask_5 10 rfl rfl)
theorem dX0_ask_127 : decode cX0_ask 127 = .ok (.getfield 406, 3) := dk_180 1 150 (dk_at dksX0_ask_5 11 rfl rfl)
theorem dX0_ask_130 : decode cX0_ask 130 = .ok (.aload_n 0, 1) := dk_42 (dk_at dksX0_ask_5 14 rfl rfl)
theorem dX0_ask_131 : decode cX0_ask 131 = .ok (.getfield 55, 3) := dk_180 0 55 (dk_at dksX0_ask_5 15 rfl rfl)
theorem dX0_ask_134 : decode cX0_ask 134 = .ok (.invokevirtual 415, 3) := dk_182 1 159 (dk_at dksX0_ask_5 18 rfl rfl)
theorem dX0_ask_137 : decode cX0_ask 137 = .ok (.aload_n 0, 1) := dk_42 (dk_at dksX0_ask_5 21 rfl rfl)
theorem dX0_ask_138 : decode cX0_ask 138 = .ok (.dup, 1) := dk_89 (dk_at dksX0_ask_5 22 rfl rfl)
theorem dX0_ask_139 : decode cX0_ask 139 = .ok (.getfield 406, 3) := dk_180 1 150 (dk_at dksX0_ask_6 0 rfl rfl)
theorem dX0_ask_142 : decode cX0_ask 142 = .ok (.iconst 1, 1) := dk_4 (dk_at dksX0_ask_6 3 rfl rfl)
theorem dX0_ask_143 : decode cX0_ask 143 = .ok (.iadd, 1) := dk_96 (dk_at dksX0_ask_6 4 rfl rfl)
theorem dX0_ask_144 : decode cX0_ask 144 = .ok (.putfield 406, 3) := dk_181 1 150 (dk_at dksX0_ask_6 5 rfl rfl)
theorem dX0_ask_147 : decode cX0_ask 147 = .ok (.goto (-88), 3) := dk_167 255 168 (dk_at dksX0_ask_6 8 rfl rfl)
theorem dX0_ask_150 : decode cX0_ask 150 = .ok (.aload_n 2, 1) := dk_44 (dk_at dksX0_ask_6 11 rfl rfl)
theorem dX0_ask_151 : decode cX0_ask 151 = .ok (.invokevirtual 421, 3) := dk_182 1 165 (dk_at dksX0_ask_6 12 rfl rfl)
theorem dX0_ask_154 : decode cX0_ask 154 = .ok (.lreturn, 1) := dk_173 (dk_at dksX0_ask_6 15 rfl rfl)
abbrev cX0_image : ByteArray := prog_1_method_77_code
def yX0_image : MethodName := ⟨RX0, "image", "()I"⟩
def dkwX0_image_6 : List UInt8 := [182, 1, 172, 42, 180, 1, 169, 172]
abbrev dktX0_image_6 : List UInt8 := dkwX0_image_6 ++ []
def dkwX0_image_5 : List UInt8 := [27, 46, 182, 1, 172, 132, 1, 1, 167, 255, 190, 42, 42, 180, 0, 123, 42, 180, 1, 169, 184, 1, 175]
abbrev dktX0_image_5 : List UInt8 := dkwX0_image_5 ++ dktX0_image_6
def dkwX0_image_4 : List UInt8 := [42, 42, 180, 0, 69, 180, 1, 9, 27, 46, 16, 8, 122, 182, 1, 172, 42, 42, 180, 0, 69, 180, 1, 9]
abbrev dktX0_image_4 : List UInt8 := dkwX0_image_4 ++ dktX0_image_5
def dkwX0_image_3 : List UInt8 := [180, 0, 69, 180, 1, 39, 27, 46, 182, 1, 172, 42, 42, 180, 0, 69, 180, 1, 41, 27, 46, 182, 1, 172]
abbrev dktX0_image_3 : List UInt8 := dkwX0_image_3 ++ dktX0_image_4
def dkwX0_image_2 : List UInt8 := [27, 46, 182, 1, 172, 132, 1, 1, 167, 255, 232, 3, 60, 27, 42, 182, 0, 189, 162, 0, 64, 42, 42]
abbrev dktX0_image_2 : List UInt8 := dkwX0_image_2 ++ dktX0_image_3
def dkwX0_image_1 : List UInt8 := [180, 1, 3, 182, 1, 172, 3, 60, 27, 42, 182, 0, 186, 162, 0, 22, 42, 42, 180, 0, 69, 180, 0, 225]
abbrev dktX0_image_1 : List UInt8 := dkwX0_image_1 ++ dktX0_image_2
def dkwX0_image_0 : List UInt8 := [42, 3, 181, 1, 169, 42, 42, 180, 0, 69, 180, 1, 3, 16, 8, 122, 182, 1, 172, 42, 42, 180, 0, 69]
abbrev dktX0_image_0 : List UInt8 := dkwX0_image_0 ++ dktX0_image_1
theorem dksX0_image_0 : cX0_image.data.toList.drop 0 = dktX0_image_0 := by decide +kernel
theorem dksX0_image_1 : cX0_image.data.toList.drop 24 = dktX0_image_1 := dk_seg dksX0_image_0 24 rfl rfl
theorem dksX0_image_2 : cX0_image.data.toList.drop 48 = dktX0_image_2 := dk_seg dksX0_image_1 24 rfl rfl
theorem dksX0_image_3 : cX0_image.data.toList.drop 71 = dktX0_image_3 := dk_seg dksX0_image_2 23 rfl rfl
theorem dksX0_image_4 : cX0_image.data.toList.drop 95 = dktX0_image_4 := dk_seg dksX0_image_3 24 rfl rfl
theorem dksX0_image_5 : cX0_image.data.toList.drop 119 = dktX0_image_5 := dk_seg dksX0_image_4 24 rfl rfl
theorem dksX0_image_6 : cX0_image.data.toList.drop 142 = dktX0_image_6 := dk_seg dksX0_image_5 23 rfl rfl
theorem dX0_image_0 : decode cX0_image 0 = .ok (.aload_n 0, 1) := dk_42 (dk_at dksX0_image_0 0 rfl rfl)
theorem dX0_image_1 : decode cX0_image 1 = .ok (.iconst 0, 1) := dk_3 (dk_at dksX0_image_0 1 rfl rfl)
theorem dX0_image_2 : decode cX0_image 2 = .ok (.putfield 425, 3) := dk_181 1 169 (dk_at dksX0_image_0 2 rfl rfl)
theorem dX0_image_5 : decode cX0_image 5 = .ok (.aload_n 0, 1) := dk_42 (dk_at dksX0_image_0 5 rfl rfl)
theorem dX0_image_6 : decode cX0_image 6 = .ok (.aload_n 0, 1) := dk_42 (dk_at dksX0_image_0 6 rfl rfl)
theorem dX0_image_7 : decode cX0_image 7 = .ok (.getfield 69, 3) := dk_180 0 69 (dk_at dksX0_image_0 7 rfl rfl)
theorem dX0_image_10 : decode cX0_image 10 = .ok (.getfield 259, 3) := dk_180 1 3 (dk_at dksX0_image_0 10 rfl rfl)
theorem dX0_image_13 : decode cX0_image 13 = .ok (.bipush 8, 2) := dk_16 8 (dk_at dksX0_image_0 13 rfl rfl)
theorem dX0_image_15 : decode cX0_image 15 = .ok (.ishr, 1) := dk_122 (dk_at dksX0_image_0 15 rfl rfl)
theorem dX0_image_16 : decode cX0_image 16 = .ok (.invokevirtual 428, 3) := dk_182 1 172 (dk_at dksX0_image_0 16 rfl rfl)
theorem dX0_image_19 : decode cX0_image 19 = .ok (.aload_n 0, 1) := dk_42 (dk_at dksX0_image_0 19 rfl rfl)
theorem dX0_image_20 : decode cX0_image 20 = .ok (.aload_n 0, 1) := dk_42 (dk_at dksX0_image_0 20 rfl rfl)
theorem dX0_image_21 : decode cX0_image 21 = .ok (.getfield 69, 3) := dk_180 0 69 (dk_at dksX0_image_0 21 rfl rfl)
theorem dX0_image_24 : decode cX0_image 24 = .ok (.getfield 259, 3) := dk_180 1 3 (dk_at dksX0_image_1 0 rfl rfl)
theorem dX0_image_27 : decode cX0_image 27 = .ok (.invokevirtual 428, 3) := dk_182 1 172 (dk_at dksX0_image_1 3 rfl rfl)
theorem dX0_image_30 : decode cX0_image 30 = .ok (.iconst 0, 1) := dk_3 (dk_at dksX0_image_1 6 rfl rfl)
theorem dX0_image_31 : decode cX0_image 31 = .ok (.istore_n 1, 1) := dk_60 (dk_at dksX0_image_1 7 rfl rfl)
theorem dX0_image_32 : decode cX0_image 32 = .ok (.iload_n 1, 1) := dk_27 (dk_at dksX0_image_1 8 rfl rfl)
theorem dX0_image_33 : decode cX0_image 33 = .ok (.aload_n 0, 1) := dk_42 (dk_at dksX0_image_1 9 rfl rfl)
theorem dX0_image_34 : decode cX0_image 34 = .ok (.invokevirtual 186, 3) := dk_182 0 186 (dk_at dksX0_image_1 10 rfl rfl)
theorem dX0_image_37 : decode cX0_image 37 = .ok (.if_icmp .ge 22, 3) := dk_162 0 22 (dk_at dksX0_image_1 13 rfl rfl)
theorem dX0_image_40 : decode cX0_image 40 = .ok (.aload_n 0, 1) := dk_42 (dk_at dksX0_image_1 16 rfl rfl)
theorem dX0_image_41 : decode cX0_image 41 = .ok (.aload_n 0, 1) := dk_42 (dk_at dksX0_image_1 17 rfl rfl)
theorem dX0_image_42 : decode cX0_image 42 = .ok (.getfield 69, 3) := dk_180 0 69 (dk_at dksX0_image_1 18 rfl rfl)
theorem dX0_image_45 : decode cX0_image 45 = .ok (.getfield 225, 3) := dk_180 0 225 (dk_at dksX0_image_1 21 rfl rfl)
theorem dX0_image_48 : decode cX0_image 48 = .ok (.iload_n 1, 1) := dk_27 (dk_at dksX0_image_2 0 rfl rfl)
theorem dX0_image_49 : decode cX0_image 49 = .ok (.iaload, 1) := dk_46 (dk_at dksX0_image_2 1 rfl rfl)
theorem dX0_image_50 : decode cX0_image 50 = .ok (.invokevirtual 428, 3) := dk_182 1 172 (dk_at dksX0_image_2 2 rfl rfl)
theorem dX0_image_53 : decode cX0_image 53 = .ok (.iinc 1 1, 3) := dk_132 1 1 (dk_at dksX0_image_2 5 rfl rfl)
theorem dX0_image_56 : decode cX0_image 56 = .ok (.goto (-24), 3) := dk_167 255 232 (dk_at dksX0_image_2 8 rfl rfl)
theorem dX0_image_59 : decode cX0_image 59 = .ok (.iconst 0, 1) := dk_3 (dk_at dksX0_image_2 11 rfl rfl)
theorem dX0_image_60 : decode cX0_image 60 = .ok (.istore_n 1, 1) := dk_60 (dk_at dksX0_image_2 12 rfl rfl)
theorem dX0_image_61 : decode cX0_image 61 = .ok (.iload_n 1, 1) := dk_27 (dk_at dksX0_image_2 13 rfl rfl)
theorem dX0_image_62 : decode cX0_image 62 = .ok (.aload_n 0, 1) := dk_42 (dk_at dksX0_image_2 14 rfl rfl)
theorem dX0_image_63 : decode cX0_image 63 = .ok (.invokevirtual 189, 3) := dk_182 0 189 (dk_at dksX0_image_2 15 rfl rfl)
theorem dX0_image_66 : decode cX0_image 66 = .ok (.if_icmp .ge 64, 3) := dk_162 0 64 (dk_at dksX0_image_2 18 rfl rfl)
theorem dX0_image_69 : decode cX0_image 69 = .ok (.aload_n 0, 1) := dk_42 (dk_at dksX0_image_2 21 rfl rfl)
theorem dX0_image_70 : decode cX0_image 70 = .ok (.aload_n 0, 1) := dk_42 (dk_at dksX0_image_2 22 rfl rfl)
theorem dX0_image_71 : decode cX0_image 71 = .ok (.getfield 69, 3) := dk_180 0 69 (dk_at dksX0_image_3 0 rfl rfl)
theorem dX0_image_74 : decode cX0_image 74 = .ok (.getfield 295, 3) := dk_180 1 39 (dk_at dksX0_image_3 3 rfl rfl)
theorem dX0_image_77 : decode cX0_image 77 = .ok (.iload_n 1, 1) := dk_27 (dk_at dksX0_image_3 6 rfl rfl)
theorem dX0_image_78 : decode cX0_image 78 = .ok (.iaload, 1) := dk_46 (dk_at dksX0_image_3 7 rfl rfl)
theorem dX0_image_79 : decode cX0_image 79 = .ok (.invokevirtual 428, 3) := dk_182 1 172 (dk_at dksX0_image_3 8 rfl rfl)
theorem dX0_image_82 : decode cX0_image 82 = .ok (.aload_n 0, 1) := dk_42 (dk_at dksX0_image_3 11 rfl rfl)
theorem dX0_image_83 : decode cX0_image 83 = .ok (.aload_n 0, 1) := dk_42 (dk_at dksX0_image_3 12 rfl rfl)
theorem dX0_image_84 : decode cX0_image 84 = .ok (.getfield 69, 3) := dk_180 0 69 (dk_at dksX0_image_3 13 rfl rfl)
theorem dX0_image_87 : decode cX0_image 87 = .ok (.getfield 297, 3) := dk_180 1 41 (dk_at dksX0_image_3 16 rfl rfl)
theorem dX0_image_90 : decode cX0_image 90 = .ok (.iload_n 1, 1) := dk_27 (dk_at dksX0_image_3 19 rfl rfl)
theorem dX0_image_91 : decode cX0_image 91 = .ok (.iaload, 1) := dk_46 (dk_at dksX0_image_3 20 rfl rfl)
theorem dX0_image_92 : decode cX0_image 92 = .ok (.invokevirtual 428, 3) := dk_182 1 172 (dk_at dksX0_image_3 21 rfl rfl)
theorem dX0_image_95 : decode cX0_image 95 = .ok (.aload_n 0, 1) := dk_42 (dk_at dksX0_image_4 0 rfl rfl)
theorem dX0_image_96 : decode cX0_image 96 = .ok (.aload_n 0, 1) := dk_42 (dk_at dksX0_image_4 1 rfl rfl)
theorem dX0_image_97 : decode cX0_image 97 = .ok (.getfield 69, 3) := dk_180 0 69 (dk_at dksX0_image_4 2 rfl rfl)
theorem dX0_image_100 : decode cX0_image 100 = .ok (.getfield 265, 3) := dk_180 1 9 (dk_at dksX0_image_4 5 rfl rfl)
theorem dX0_image_103 : decode cX0_image 103 = .ok (.iload_n 1, 1) := dk_27 (dk_at dksX0_image_4 8 rfl rfl)
theorem dX0_image_104 : decode cX0_image 104 = .ok (.iaload, 1) := dk_46 (dk_at dksX0_image_4 9 rfl rfl)
theorem dX0_image_105 : decode cX0_image 105 = .ok (.bipush 8, 2) := dk_16 8 (dk_at dksX0_image_4 10 rfl rfl)
theorem dX0_image_107 : decode cX0_image 107 = .ok (.ishr, 1) := dk_122 (dk_at dksX0_image_4 12 rfl rfl)
theorem dX0_image_108 : decode cX0_image 108 = .ok (.invokevirtual 428, 3) := dk_182 1 172 (dk_at dksX0_image_4 13 rfl rfl)
theorem dX0_image_111 : decode cX0_image 111 = .ok (.aload_n 0, 1) := dk_42 (dk_at dksX0_image_4 16 rfl rfl)
theorem dX0_image_112 : decode cX0_image 112 = .ok (.aload_n 0, 1) := dk_42 (dk_at dksX0_image_4 17 rfl rfl)
theorem dX0_image_113 : decode cX0_image 113 = .ok (.getfield 69, 3) := dk_180 0 69 (dk_at dksX0_image_4 18 rfl rfl)
theorem dX0_image_116 : decode cX0_image 116 = .ok (.getfield 265, 3) := dk_180 1 9 (dk_at dksX0_image_4 21 rfl rfl)
theorem dX0_image_119 : decode cX0_image 119 = .ok (.iload_n 1, 1) := dk_27 (dk_at dksX0_image_5 0 rfl rfl)
theorem dX0_image_120 : decode cX0_image 120 = .ok (.iaload, 1) := dk_46 (dk_at dksX0_image_5 1 rfl rfl)
theorem dX0_image_121 : decode cX0_image 121 = .ok (.invokevirtual 428, 3) := dk_182 1 172 (dk_at dksX0_image_5 2 rfl rfl)
theorem dX0_image_124 : decode cX0_image 124 = .ok (.iinc 1 1, 3) := dk_132 1 1 (dk_at dksX0_image_5 5 rfl rfl)
theorem dX0_image_127 : decode cX0_image 127 = .ok (.goto (-66), 3) := dk_167 255 190 (dk_at dksX0_image_5 8 rfl rfl)
theorem dX0_image_130 : decode cX0_image 130 = .ok (.aload_n 0, 1) := dk_42 (dk_at dksX0_image_5 11 rfl rfl)
theorem dX0_image_131 : decode cX0_image 131 = .ok (.aload_n 0, 1) := dk_42 (dk_at dksX0_image_5 12 rfl rfl)
theorem dX0_image_132 : decode cX0_image 132 = .ok (.getfield 123, 3) := dk_180 0 123 (dk_at dksX0_image_5 13 rfl rfl)
theorem dX0_image_135 : decode cX0_image 135 = .ok (.aload_n 0, 1) := dk_42 (dk_at dksX0_image_5 16 rfl rfl)
theorem dX0_image_136 : decode cX0_image 136 = .ok (.getfield 425, 3) := dk_180 1 169 (dk_at dksX0_image_5 17 rfl rfl)
theorem dX0_image_139 : decode cX0_image 139 = .ok (.invokestatic 431, 3) := dk_184 1 175 (dk_at dksX0_image_5 20 rfl rfl)
theorem dX0_image_142 : decode cX0_image 142 = .ok (.invokevirtual 428, 3) := dk_182 1 172 (dk_at dksX0_image_6 0 rfl rfl)
theorem dX0_image_145 : decode cX0_image 145 = .ok (.aload_n 0, 1) := dk_42 (dk_at dksX0_image_6 3 rfl rfl)
theorem dX0_image_146 : decode cX0_image 146 = .ok (.getfield 425, 3) := dk_180 1 169 (dk_at dksX0_image_6 4 rfl rfl)
theorem dX0_image_149 : decode cX0_image 149 = .ok (.ireturn, 1) := dk_172 (dk_at dksX0_image_6 7 rfl rfl)
abbrev cX0_writes : ByteArray := prog_1_method_75_code
def yX0_writes : MethodName := ⟨RX0, "writes", "(I)V"⟩
def dkwX0_writes_0 : List UInt8 := [42, 180, 0, 123, 42, 89, 180, 1, 169, 90, 4, 96, 181, 1, 169, 27, 145, 84, 177]
abbrev dktX0_writes_0 : List UInt8 := dkwX0_writes_0 ++ []
theorem dksX0_writes_0 : cX0_writes.data.toList.drop 0 = dktX0_writes_0 := by decide +kernel
theorem dX0_writes_0 : decode cX0_writes 0 = .ok (.aload_n 0, 1) := dk_42 (dk_at dksX0_writes_0 0 rfl rfl)
theorem dX0_writes_1 : decode cX0_writes 1 = .ok (.getfield 123, 3) := dk_180 0 123 (dk_at dksX0_writes_0 1 rfl rfl)
theorem dX0_writes_4 : decode cX0_writes 4 = .ok (.aload_n 0, 1) := dk_42 (dk_at dksX0_writes_0 4 rfl rfl)
theorem dX0_writes_5 : decode cX0_writes 5 = .ok (.dup, 1) := dk_89 (dk_at dksX0_writes_0 5 rfl rfl)
theorem dX0_writes_6 : decode cX0_writes 6 = .ok (.getfield 425, 3) := dk_180 1 169 (dk_at dksX0_writes_0 6 rfl rfl)
theorem dX0_writes_9 : decode cX0_writes 9 = .ok (.dup_x1, 1) := dk_90 (dk_at dksX0_writes_0 9 rfl rfl)
theorem dX0_writes_10 : decode cX0_writes 10 = .ok (.iconst 1, 1) := dk_4 (dk_at dksX0_writes_0 10 rfl rfl)
theorem dX0_writes_11 : decode cX0_writes 11 = .ok (.iadd, 1) := dk_96 (dk_at dksX0_writes_0 11 rfl rfl)
theorem dX0_writes_12 : decode cX0_writes 12 = .ok (.putfield 425, 3) := dk_181 1 169 (dk_at dksX0_writes_0 12 rfl rfl)
theorem dX0_writes_15 : decode cX0_writes 15 = .ok (.iload_n 1, 1) := dk_27 (dk_at dksX0_writes_0 15 rfl rfl)
theorem dX0_writes_16 : decode cX0_writes 16 = .ok (.i2b, 1) := dk_145 (dk_at dksX0_writes_0 16 rfl rfl)
theorem dX0_writes_17 : decode cX0_writes 17 = .ok (.bastore, 1) := dk_84 (dk_at dksX0_writes_0 17 rfl rfl)
theorem dX0_writes_18 : decode cX0_writes 18 = .ok (.return_, 1) := dk_177 (dk_at dksX0_writes_0 18 rfl rfl)
abbrev cX0_check : ByteArray := prog_1_method_76_code
def yX0_check : MethodName := ⟨RX0, "check", "([BI)I"⟩
def dkwX0_check_1 : List UInt8 := [17, 0, 251, 112, 61, 132, 3, 1, 167, 255, 232, 28, 172]
abbrev dktX0_check_1 : List UInt8 := dkwX0_check_1 ++ []
def dkwX0_check_0 : List UInt8 := [17, 0, 163, 61, 3, 62, 29, 27, 162, 0, 25, 6, 28, 104, 42, 29, 51, 17, 0, 255, 126, 96]
abbrev dktX0_check_0 : List UInt8 := dkwX0_check_0 ++ dktX0_check_1
theorem dksX0_check_0 : cX0_check.data.toList.drop 0 = dktX0_check_0 := by decide +kernel
theorem dksX0_check_1 : cX0_check.data.toList.drop 22 = dktX0_check_1 := dk_seg dksX0_check_0 22 rfl rfl
theorem dX0_check_0 : decode cX0_check 0 = .ok (.sipush 163, 3) := dk_17 0 163 (dk_at dksX0_check_0 0 rfl rfl)
theorem dX0_check_3 : decode cX0_check 3 = .ok (.istore_n 2, 1) := dk_61 (dk_at dksX0_check_0 3 rfl rfl)
theorem dX0_check_4 : decode cX0_check 4 = .ok (.iconst 0, 1) := dk_3 (dk_at dksX0_check_0 4 rfl rfl)
theorem dX0_check_5 : decode cX0_check 5 = .ok (.istore_n 3, 1) := dk_62 (dk_at dksX0_check_0 5 rfl rfl)
theorem dX0_check_6 : decode cX0_check 6 = .ok (.iload_n 3, 1) := dk_29 (dk_at dksX0_check_0 6 rfl rfl)
theorem dX0_check_7 : decode cX0_check 7 = .ok (.iload_n 1, 1) := dk_27 (dk_at dksX0_check_0 7 rfl rfl)
theorem dX0_check_8 : decode cX0_check 8 = .ok (.if_icmp .ge 25, 3) := dk_162 0 25 (dk_at dksX0_check_0 8 rfl rfl)
theorem dX0_check_11 : decode cX0_check 11 = .ok (.iconst 3, 1) := dk_6 (dk_at dksX0_check_0 11 rfl rfl)
theorem dX0_check_12 : decode cX0_check 12 = .ok (.iload_n 2, 1) := dk_28 (dk_at dksX0_check_0 12 rfl rfl)
theorem dX0_check_13 : decode cX0_check 13 = .ok (.imul, 1) := dk_104 (dk_at dksX0_check_0 13 rfl rfl)
theorem dX0_check_14 : decode cX0_check 14 = .ok (.aload_n 0, 1) := dk_42 (dk_at dksX0_check_0 14 rfl rfl)
theorem dX0_check_15 : decode cX0_check 15 = .ok (.iload_n 3, 1) := dk_29 (dk_at dksX0_check_0 15 rfl rfl)
theorem dX0_check_16 : decode cX0_check 16 = .ok (.baload, 1) := dk_51 (dk_at dksX0_check_0 16 rfl rfl)
theorem dX0_check_17 : decode cX0_check 17 = .ok (.sipush 255, 3) := dk_17 0 255 (dk_at dksX0_check_0 17 rfl rfl)
theorem dX0_check_20 : decode cX0_check 20 = .ok (.iand, 1) := dk_126 (dk_at dksX0_check_0 20 rfl rfl)
theorem dX0_check_21 : decode cX0_check 21 = .ok (.iadd, 1) := dk_96 (dk_at dksX0_check_0 21 rfl rfl)
theorem dX0_check_22 : decode cX0_check 22 = .ok (.sipush 251, 3) := dk_17 0 251 (dk_at dksX0_check_1 0 rfl rfl)
theorem dX0_check_25 : decode cX0_check 25 = .ok (.irem, 1) := dk_112 (dk_at dksX0_check_1 3 rfl rfl)
theorem dX0_check_26 : decode cX0_check 26 = .ok (.istore_n 2, 1) := dk_61 (dk_at dksX0_check_1 4 rfl rfl)
theorem dX0_check_27 : decode cX0_check 27 = .ok (.iinc 3 1, 3) := dk_132 3 1 (dk_at dksX0_check_1 5 rfl rfl)
theorem dX0_check_30 : decode cX0_check 30 = .ok (.goto (-24), 3) := dk_167 255 232 (dk_at dksX0_check_1 8 rfl rfl)
theorem dX0_check_33 : decode cX0_check 33 = .ok (.iload_n 2, 1) := dk_28 (dk_at dksX0_check_1 11 rfl rfl)
theorem dX0_check_34 : decode cX0_check 34 = .ok (.ireturn, 1) := dk_172 (dk_at dksX0_check_1 12 rfl rfl)
abbrev cX0_octet : ByteArray := prog_1_method_78_code
def yX0_octet : MethodName := ⟨RX0, "octet", "(I)I"⟩
def dkwX0_octet_1 : List UInt8 := [17, 0, 255, 126, 172]
abbrev dktX0_octet_1 : List UInt8 := dkwX0_octet_1 ++ []
def dkwX0_octet_0 : List UInt8 := [27, 155, 0, 11, 27, 42, 180, 1, 169, 161, 0, 7, 2, 167, 0, 13, 42, 180, 0, 123, 27, 51]
abbrev dktX0_octet_0 : List UInt8 := dkwX0_octet_0 ++ dktX0_octet_1
theorem dksX0_octet_0 : cX0_octet.data.toList.drop 0 = dktX0_octet_0 := by decide +kernel
theorem dksX0_octet_1 : cX0_octet.data.toList.drop 22 = dktX0_octet_1 := dk_seg dksX0_octet_0 22 rfl rfl
theorem dX0_octet_0 : decode cX0_octet 0 = .ok (.iload_n 1, 1) := dk_27 (dk_at dksX0_octet_0 0 rfl rfl)
theorem dX0_octet_1 : decode cX0_octet 1 = .ok (.ifCond .lt 11, 3) := dk_155 0 11 (dk_at dksX0_octet_0 1 rfl rfl)
theorem dX0_octet_4 : decode cX0_octet 4 = .ok (.iload_n 1, 1) := dk_27 (dk_at dksX0_octet_0 4 rfl rfl)
theorem dX0_octet_5 : decode cX0_octet 5 = .ok (.aload_n 0, 1) := dk_42 (dk_at dksX0_octet_0 5 rfl rfl)
theorem dX0_octet_6 : decode cX0_octet 6 = .ok (.getfield 425, 3) := dk_180 1 169 (dk_at dksX0_octet_0 6 rfl rfl)
theorem dX0_octet_9 : decode cX0_octet 9 = .ok (.if_icmp .lt 7, 3) := dk_161 0 7 (dk_at dksX0_octet_0 9 rfl rfl)
theorem dX0_octet_12 : decode cX0_octet 12 = .ok (.iconst (-1), 1) := dk_2 (dk_at dksX0_octet_0 12 rfl rfl)
theorem dX0_octet_13 : decode cX0_octet 13 = .ok (.goto 13, 3) := dk_167 0 13 (dk_at dksX0_octet_0 13 rfl rfl)
theorem dX0_octet_16 : decode cX0_octet 16 = .ok (.aload_n 0, 1) := dk_42 (dk_at dksX0_octet_0 16 rfl rfl)
theorem dX0_octet_17 : decode cX0_octet 17 = .ok (.getfield 123, 3) := dk_180 0 123 (dk_at dksX0_octet_0 17 rfl rfl)
theorem dX0_octet_20 : decode cX0_octet 20 = .ok (.iload_n 1, 1) := dk_27 (dk_at dksX0_octet_0 20 rfl rfl)
theorem dX0_octet_21 : decode cX0_octet 21 = .ok (.baload, 1) := dk_51 (dk_at dksX0_octet_0 21 rfl rfl)
theorem dX0_octet_22 : decode cX0_octet 22 = .ok (.sipush 255, 3) := dk_17 0 255 (dk_at dksX0_octet_1 0 rfl rfl)
theorem dX0_octet_25 : decode cX0_octet 25 = .ok (.iand, 1) := dk_126 (dk_at dksX0_octet_1 3 rfl rfl)
theorem dX0_octet_26 : decode cX0_octet 26 = .ok (.ireturn, 1) := dk_172 (dk_at dksX0_octet_1 4 rfl rfl)
abbrev cX0_on : ByteArray := prog_1_method_80_code
def yX0_on : MethodName := ⟨RX0, "on", "()Z"⟩
def dkwX0_on_7 : List UInt8 := [42, 3, 181, 0, 159, 4, 172]
abbrev dktX0_on_7 : List UInt8 := dkwX0_on_7 ++ []
def dkwX0_on_6 : List UInt8 := [29, 5, 96, 182, 1, 138, 16, 8, 120, 42, 29, 6, 96, 182, 1, 138, 128, 79, 132, 2, 1, 167, 255, 177]
abbrev dktX0_on_6 : List UInt8 := dkwX0_on_6 ++ dktX0_on_7
def dkwX0_on_5 : List UInt8 := [180, 0, 69, 180, 1, 41, 28, 42, 29, 4, 96, 182, 1, 138, 79, 42, 180, 0, 69, 180, 1, 9, 28, 42]
abbrev dktX0_on_5 : List UInt8 := dkwX0_on_5 ++ dktX0_on_6
def dkwX0_on_4 : List UInt8 := [182, 0, 186, 96, 7, 28, 104, 96, 62, 42, 180, 0, 69, 180, 1, 39, 28, 42, 29, 182, 1, 138, 79, 42]
abbrev dktX0_on_4 : List UInt8 := dkwX0_on_4 ++ dktX0_on_5
def dkwX0_on_3 : List UInt8 := [96, 182, 1, 138, 79, 132, 2, 1, 167, 255, 229, 3, 61, 28, 42, 182, 0, 189, 162, 0, 77, 5, 42]
abbrev dktX0_on_3 : List UInt8 := dkwX0_on_3 ++ dktX0_on_4
def dkwX0_on_2 : List UInt8 := [181, 1, 3, 3, 61, 28, 42, 182, 0, 186, 162, 0, 25, 42, 180, 0, 69, 180, 0, 225, 28, 42, 5, 28]
abbrev dktX0_on_2 : List UInt8 := dkwX0_on_2 ++ dktX0_on_3
def dkwX0_on_1 : List UInt8 := [167, 0, 4, 3, 172, 42, 180, 0, 69, 42, 3, 182, 1, 138, 16, 8, 120, 42, 4, 182, 1, 138, 128]
abbrev dktX0_on_1 : List UInt8 := dkwX0_on_1 ++ dktX0_on_2
def dkwX0_on_0 : List UInt8 := [42, 182, 0, 140, 60, 42, 27, 182, 1, 182, 154, 0, 17, 42, 8, 182, 0, 129, 155, 0, 7, 4]
abbrev dktX0_on_0 : List UInt8 := dkwX0_on_0 ++ dktX0_on_1
theorem dksX0_on_0 : cX0_on.data.toList.drop 0 = dktX0_on_0 := by decide +kernel
theorem dksX0_on_1 : cX0_on.data.toList.drop 22 = dktX0_on_1 := dk_seg dksX0_on_0 22 rfl rfl
theorem dksX0_on_2 : cX0_on.data.toList.drop 45 = dktX0_on_2 := dk_seg dksX0_on_1 23 rfl rfl
theorem dksX0_on_3 : cX0_on.data.toList.drop 69 = dktX0_on_3 := dk_seg dksX0_on_2 24 rfl rfl
theorem dksX0_on_4 : cX0_on.data.toList.drop 92 = dktX0_on_4 := dk_seg dksX0_on_3 23 rfl rfl
theorem dksX0_on_5 : cX0_on.data.toList.drop 116 = dktX0_on_5 := dk_seg dksX0_on_4 24 rfl rfl
theorem dksX0_on_6 : cX0_on.data.toList.drop 140 = dktX0_on_6 := dk_seg dksX0_on_5 24 rfl rfl
theorem dksX0_on_7 : cX0_on.data.toList.drop 164 = dktX0_on_7 := dk_seg dksX0_on_6 24 rfl rfl
theorem dX0_on_0 : decode cX0_on 0 = .ok (.aload_n 0, 1) := dk_42 (dk_at dksX0_on_0 0 rfl rfl)
theorem dX0_on_1 : decode cX0_on 1 = .ok (.invokevirtual 140, 3) := dk_182 0 140 (dk_at dksX0_on_0 1 rfl rfl)
theorem dX0_on_4 : decode cX0_on 4 = .ok (.istore_n 1, 1) := dk_60 (dk_at dksX0_on_0 4 rfl rfl)
theorem dX0_on_5 : decode cX0_on 5 = .ok (.aload_n 0, 1) := dk_42 (dk_at dksX0_on_0 5 rfl rfl)
theorem dX0_on_6 : decode cX0_on 6 = .ok (.iload_n 1, 1) := dk_27 (dk_at dksX0_on_0 6 rfl rfl)
theorem dX0_on_7 : decode cX0_on 7 = .ok (.invokevirtual 438, 3) := dk_182 1 182 (dk_at dksX0_on_0 7 rfl rfl)
theorem dX0_on_10 : decode cX0_on 10 = .ok (.ifCond .ne 17, 3) := dk_154 0 17 (dk_at dksX0_on_0 10 rfl rfl)
theorem dX0_on_13 : decode cX0_on 13 = .ok (.aload_n 0, 1) := dk_42 (dk_at dksX0_on_0 13 rfl rfl)
theorem dX0_on_14 : decode cX0_on 14 = .ok (.iconst 5, 1) := dk_8 (dk_at dksX0_on_0 14 rfl rfl)
theorem dX0_on_15 : decode cX0_on 15 = .ok (.invokevirtual 129, 3) := dk_182 0 129 (dk_at dksX0_on_0 15 rfl rfl)
theorem dX0_on_18 : decode cX0_on 18 = .ok (.ifCond .lt 7, 3) := dk_155 0 7 (dk_at dksX0_on_0 18 rfl rfl)
theorem dX0_on_21 : decode cX0_on 21 = .ok (.iconst 1, 1) := dk_4 (dk_at dksX0_on_0 21 rfl rfl)
theorem dX0_on_22 : decode cX0_on 22 = .ok (.goto 4, 3) := dk_167 0 4 (dk_at dksX0_on_1 0 rfl rfl)
theorem dX0_on_25 : decode cX0_on 25 = .ok (.iconst 0, 1) := dk_3 (dk_at dksX0_on_1 3 rfl rfl)
theorem dX0_on_26 : decode cX0_on 26 = .ok (.ireturn, 1) := dk_172 (dk_at dksX0_on_1 4 rfl rfl)
theorem dX0_on_27 : decode cX0_on 27 = .ok (.aload_n 0, 1) := dk_42 (dk_at dksX0_on_1 5 rfl rfl)
theorem dX0_on_28 : decode cX0_on 28 = .ok (.getfield 69, 3) := dk_180 0 69 (dk_at dksX0_on_1 6 rfl rfl)
theorem dX0_on_31 : decode cX0_on 31 = .ok (.aload_n 0, 1) := dk_42 (dk_at dksX0_on_1 9 rfl rfl)
theorem dX0_on_32 : decode cX0_on 32 = .ok (.iconst 0, 1) := dk_3 (dk_at dksX0_on_1 10 rfl rfl)
theorem dX0_on_33 : decode cX0_on 33 = .ok (.invokevirtual 394, 3) := dk_182 1 138 (dk_at dksX0_on_1 11 rfl rfl)
theorem dX0_on_36 : decode cX0_on 36 = .ok (.bipush 8, 2) := dk_16 8 (dk_at dksX0_on_1 14 rfl rfl)
theorem dX0_on_38 : decode cX0_on 38 = .ok (.ishl, 1) := dk_120 (dk_at dksX0_on_1 16 rfl rfl)
theorem dX0_on_39 : decode cX0_on 39 = .ok (.aload_n 0, 1) := dk_42 (dk_at dksX0_on_1 17 rfl rfl)
theorem dX0_on_40 : decode cX0_on 40 = .ok (.iconst 1, 1) := dk_4 (dk_at dksX0_on_1 18 rfl rfl)
theorem dX0_on_41 : decode cX0_on 41 = .ok (.invokevirtual 394, 3) := dk_182 1 138 (dk_at dksX0_on_1 19 rfl rfl)
theorem dX0_on_44 : decode cX0_on 44 = .ok (.ior, 1) := dk_128 (dk_at dksX0_on_1 22 rfl rfl)
theorem dX0_on_45 : decode cX0_on 45 = .ok (.putfield 259, 3) := dk_181 1 3 (dk_at dksX0_on_2 0 rfl rfl)
theorem dX0_on_48 : decode cX0_on 48 = .ok (.iconst 0, 1) := dk_3 (dk_at dksX0_on_2 3 rfl rfl)
theorem dX0_on_49 : decode cX0_on 49 = .ok (.istore_n 2, 1) := dk_61 (dk_at dksX0_on_2 4 rfl rfl)
theorem dX0_on_50 : decode cX0_on 50 = .ok (.iload_n 2, 1) := dk_28 (dk_at dksX0_on_2 5 rfl rfl)
theorem dX0_on_51 : decode cX0_on 51 = .ok (.aload_n 0, 1) := dk_42 (dk_at dksX0_on_2 6 rfl rfl)
theorem dX0_on_52 : decode cX0_on 52 = .ok (.invokevirtual 186, 3) := dk_182 0 186 (dk_at dksX0_on_2 7 rfl rfl)
theorem dX0_on_55 : decode cX0_on 55 = .ok (.if_icmp .ge 25, 3) := dk_162 0 25 (dk_at dksX0_on_2 10 rfl rfl)
theorem dX0_on_58 : decode cX0_on 58 = .ok (.aload_n 0, 1) := dk_42 (dk_at dksX0_on_2 13 rfl rfl)
theorem dX0_on_59 : decode cX0_on 59 = .ok (.getfield 69, 3) := dk_180 0 69 (dk_at dksX0_on_2 14 rfl rfl)
theorem dX0_on_62 : decode cX0_on 62 = .ok (.getfield 225, 3) := dk_180 0 225 (dk_at dksX0_on_2 17 rfl rfl)
theorem dX0_on_65 : decode cX0_on 65 = .ok (.iload_n 2, 1) := dk_28 (dk_at dksX0_on_2 20 rfl rfl)
theorem dX0_on_66 : decode cX0_on 66 = .ok (.aload_n 0, 1) := dk_42 (dk_at dksX0_on_2 21 rfl rfl)
theorem dX0_on_67 : decode cX0_on 67 = .ok (.iconst 2, 1) := dk_5 (dk_at dksX0_on_2 22 rfl rfl)
theorem dX0_on_68 : decode cX0_on 68 = .ok (.iload_n 2, 1) := dk_28 (dk_at dksX0_on_2 23 rfl rfl)
theorem dX0_on_69 : decode cX0_on 69 = .ok (.iadd, 1) := dk_96 (dk_at dksX0_on_3 0 rfl rfl)
theorem dX0_on_70 : decode cX0_on 70 = .ok (.invokevirtual 394, 3) := dk_182 1 138 (dk_at dksX0_on_3 1 rfl rfl)
theorem dX0_on_73 : decode cX0_on 73 = .ok (.iastore, 1) := dk_79 (dk_at dksX0_on_3 4 rfl rfl)
theorem dX0_on_74 : decode cX0_on 74 = .ok (.iinc 2 1, 3) := dk_132 2 1 (dk_at dksX0_on_3 5 rfl rfl)
theorem dX0_on_77 : decode cX0_on 77 = .ok (.goto (-27), 3) := dk_167 255 229 (dk_at dksX0_on_3 8 rfl rfl)
theorem dX0_on_80 : decode cX0_on 80 = .ok (.iconst 0, 1) := dk_3 (dk_at dksX0_on_3 11 rfl rfl)
theorem dX0_on_81 : decode cX0_on 81 = .ok (.istore_n 2, 1) := dk_61 (dk_at dksX0_on_3 12 rfl rfl)
theorem dX0_on_82 : decode cX0_on 82 = .ok (.iload_n 2, 1) := dk_28 (dk_at dksX0_on_3 13 rfl rfl)
theorem dX0_on_83 : decode cX0_on 83 = .ok (.aload_n 0, 1) := dk_42 (dk_at dksX0_on_3 14 rfl rfl)
theorem dX0_on_84 : decode cX0_on 84 = .ok (.invokevirtual 189, 3) := dk_182 0 189 (dk_at dksX0_on_3 15 rfl rfl)
theorem dX0_on_87 : decode cX0_on 87 = .ok (.if_icmp .ge 77, 3) := dk_162 0 77 (dk_at dksX0_on_3 18 rfl rfl)
theorem dX0_on_90 : decode cX0_on 90 = .ok (.iconst 2, 1) := dk_5 (dk_at dksX0_on_3 21 rfl rfl)
theorem dX0_on_91 : decode cX0_on 91 = .ok (.aload_n 0, 1) := dk_42 (dk_at dksX0_on_3 22 rfl rfl)
theorem dX0_on_92 : decode cX0_on 92 = .ok (.invokevirtual 186, 3) := dk_182 0 186 (dk_at dksX0_on_4 0 rfl rfl)
theorem dX0_on_95 : decode cX0_on 95 = .ok (.iadd, 1) := dk_96 (dk_at dksX0_on_4 3 rfl rfl)
theorem dX0_on_96 : decode cX0_on 96 = .ok (.iconst 4, 1) := dk_7 (dk_at dksX0_on_4 4 rfl rfl)
theorem dX0_on_97 : decode cX0_on 97 = .ok (.iload_n 2, 1) := dk_28 (dk_at dksX0_on_4 5 rfl rfl)
theorem dX0_on_98 : decode cX0_on 98 = .ok (.imul, 1) := dk_104 (dk_at dksX0_on_4 6 rfl rfl)
theorem dX0_on_99 : decode cX0_on 99 = .ok (.iadd, 1) := dk_96 (dk_at dksX0_on_4 7 rfl rfl)
theorem dX0_on_100 : decode cX0_on 100 = .ok (.istore_n 3, 1) := dk_62 (dk_at dksX0_on_4 8 rfl rfl)
theorem dX0_on_101 : decode cX0_on 101 = .ok (.aload_n 0, 1) := dk_42 (dk_at dksX0_on_4 9 rfl rfl)
theorem dX0_on_102 : decode cX0_on 102 = .ok (.getfield 69, 3) := dk_180 0 69 (dk_at dksX0_on_4 10 rfl rfl)
theorem dX0_on_105 : decode cX0_on 105 = .ok (.getfield 295, 3) := dk_180 1 39 (dk_at dksX0_on_4 13 rfl rfl)
theorem dX0_on_108 : decode cX0_on 108 = .ok (.iload_n 2, 1) := dk_28 (dk_at dksX0_on_4 16 rfl rfl)
theorem dX0_on_109 : decode cX0_on 109 = .ok (.aload_n 0, 1) := dk_42 (dk_at dksX0_on_4 17 rfl rfl)
theorem dX0_on_110 : decode cX0_on 110 = .ok (.iload_n 3, 1) := dk_29 (dk_at dksX0_on_4 18 rfl rfl)
theorem dX0_on_111 : decode cX0_on 111 = .ok (.invokevirtual 394, 3) := dk_182 1 138 (dk_at dksX0_on_4 19 rfl rfl)
theorem dX0_on_114 : decode cX0_on 114 = .ok (.iastore, 1) := dk_79 (dk_at dksX0_on_4 22 rfl rfl)
theorem dX0_on_115 : decode cX0_on 115 = .ok (.aload_n 0, 1) := dk_42 (dk_at dksX0_on_4 23 rfl rfl)
theorem dX0_on_116 : decode cX0_on 116 = .ok (.getfield 69, 3) := dk_180 0 69 (dk_at dksX0_on_5 0 rfl rfl)
theorem dX0_on_119 : decode cX0_on 119 = .ok (.getfield 297, 3) := dk_180 1 41 (dk_at dksX0_on_5 3 rfl rfl)
theorem dX0_on_122 : decode cX0_on 122 = .ok (.iload_n 2, 1) := dk_28 (dk_at dksX0_on_5 6 rfl rfl)
theorem dX0_on_123 : decode cX0_on 123 = .ok (.aload_n 0, 1) := dk_42 (dk_at dksX0_on_5 7 rfl rfl)
theorem dX0_on_124 : decode cX0_on 124 = .ok (.iload_n 3, 1) := dk_29 (dk_at dksX0_on_5 8 rfl rfl)
theorem dX0_on_125 : decode cX0_on 125 = .ok (.iconst 1, 1) := dk_4 (dk_at dksX0_on_5 9 rfl rfl)
theorem dX0_on_126 : decode cX0_on 126 = .ok (.iadd, 1) := dk_96 (dk_at dksX0_on_5 10 rfl rfl)
theorem dX0_on_127 : decode cX0_on 127 = .ok (.invokevirtual 394, 3) := dk_182 1 138 (dk_at dksX0_on_5 11 rfl rfl)
theorem dX0_on_130 : decode cX0_on 130 = .ok (.iastore, 1) := dk_79 (dk_at dksX0_on_5 14 rfl rfl)
theorem dX0_on_131 : decode cX0_on 131 = .ok (.aload_n 0, 1) := dk_42 (dk_at dksX0_on_5 15 rfl rfl)
theorem dX0_on_132 : decode cX0_on 132 = .ok (.getfield 69, 3) := dk_180 0 69 (dk_at dksX0_on_5 16 rfl rfl)
theorem dX0_on_135 : decode cX0_on 135 = .ok (.getfield 265, 3) := dk_180 1 9 (dk_at dksX0_on_5 19 rfl rfl)
theorem dX0_on_138 : decode cX0_on 138 = .ok (.iload_n 2, 1) := dk_28 (dk_at dksX0_on_5 22 rfl rfl)
theorem dX0_on_139 : decode cX0_on 139 = .ok (.aload_n 0, 1) := dk_42 (dk_at dksX0_on_5 23 rfl rfl)
theorem dX0_on_140 : decode cX0_on 140 = .ok (.iload_n 3, 1) := dk_29 (dk_at dksX0_on_6 0 rfl rfl)
theorem dX0_on_141 : decode cX0_on 141 = .ok (.iconst 2, 1) := dk_5 (dk_at dksX0_on_6 1 rfl rfl)
theorem dX0_on_142 : decode cX0_on 142 = .ok (.iadd, 1) := dk_96 (dk_at dksX0_on_6 2 rfl rfl)
theorem dX0_on_143 : decode cX0_on 143 = .ok (.invokevirtual 394, 3) := dk_182 1 138 (dk_at dksX0_on_6 3 rfl rfl)
theorem dX0_on_146 : decode cX0_on 146 = .ok (.bipush 8, 2) := dk_16 8 (dk_at dksX0_on_6 6 rfl rfl)
theorem dX0_on_148 : decode cX0_on 148 = .ok (.ishl, 1) := dk_120 (dk_at dksX0_on_6 8 rfl rfl)
theorem dX0_on_149 : decode cX0_on 149 = .ok (.aload_n 0, 1) := dk_42 (dk_at dksX0_on_6 9 rfl rfl)
theorem dX0_on_150 : decode cX0_on 150 = .ok (.iload_n 3, 1) := dk_29 (dk_at dksX0_on_6 10 rfl rfl)
theorem dX0_on_151 : decode cX0_on 151 = .ok (.iconst 3, 1) := dk_6 (dk_at dksX0_on_6 11 rfl rfl)
theorem dX0_on_152 : decode cX0_on 152 = .ok (.iadd, 1) := dk_96 (dk_at dksX0_on_6 12 rfl rfl)
theorem dX0_on_153 : decode cX0_on 153 = .ok (.invokevirtual 394, 3) := dk_182 1 138 (dk_at dksX0_on_6 13 rfl rfl)
theorem dX0_on_156 : decode cX0_on 156 = .ok (.ior, 1) := dk_128 (dk_at dksX0_on_6 16 rfl rfl)
theorem dX0_on_157 : decode cX0_on 157 = .ok (.iastore, 1) := dk_79 (dk_at dksX0_on_6 17 rfl rfl)
theorem dX0_on_158 : decode cX0_on 158 = .ok (.iinc 2 1, 3) := dk_132 2 1 (dk_at dksX0_on_6 18 rfl rfl)
theorem dX0_on_161 : decode cX0_on 161 = .ok (.goto (-79), 3) := dk_167 255 177 (dk_at dksX0_on_6 21 rfl rfl)
theorem dX0_on_164 : decode cX0_on 164 = .ok (.aload_n 0, 1) := dk_42 (dk_at dksX0_on_7 0 rfl rfl)
theorem dX0_on_165 : decode cX0_on 165 = .ok (.iconst 0, 1) := dk_3 (dk_at dksX0_on_7 1 rfl rfl)
theorem dX0_on_166 : decode cX0_on 166 = .ok (.putfield 159, 3) := dk_181 0 159 (dk_at dksX0_on_7 2 rfl rfl)
theorem dX0_on_169 : decode cX0_on 169 = .ok (.iconst 1, 1) := dk_4 (dk_at dksX0_on_7 5 rfl rfl)
theorem dX0_on_170 : decode cX0_on 170 = .ok (.ireturn, 1) := dk_172 (dk_at dksX0_on_7 6 rfl rfl)
abbrev cX0_isImage : ByteArray := prog_1_method_79_code
def yX0_isImage : MethodName := ⟨RX0, "isImage", "(I)Z"⟩
def dkwX0_isImage_9 : List UInt8 := [128, 17, 39, 15, 164, 0, 5, 3, 172, 132, 2, 1, 167, 255, 130, 4, 172]
abbrev dktX0_isImage_9 : List UInt8 := dkwX0_isImage_9 ++ []
def dkwX0_isImage_8 : List UInt8 := [54, 5, 21, 5, 153, 0, 27, 42, 29, 5, 96, 182, 1, 138, 16, 8, 120, 42, 29, 6, 96, 182, 1, 138]
abbrev dktX0_isImage_8 : List UInt8 := dkwX0_isImage_8 ++ dktX0_isImage_9
def dkwX0_isImage_7 : List UInt8 := [160, 0, 22, 42, 29, 4, 96, 182, 1, 138, 25, 4, 180, 1, 179, 160, 0, 7, 4, 167, 0, 4, 3]
abbrev dktX0_isImage_7 : List UInt8 := dkwX0_isImage_7 ++ dktX0_isImage_8
def dkwX0_isImage_6 : List UInt8 := [29, 4, 96, 182, 1, 138, 25, 4, 180, 1, 181, 159, 0, 31, 42, 29, 182, 1, 138, 25, 4, 180, 1, 181]
abbrev dktX0_isImage_6 : List UInt8 := dkwX0_isImage_6 ++ dktX0_isImage_7
def dkwX0_isImage_5 : List UInt8 := [42, 180, 0, 31, 28, 182, 1, 30, 58, 4, 42, 29, 182, 1, 138, 25, 4, 180, 1, 179, 160, 0, 18, 42]
abbrev dktX0_isImage_5 : List UInt8 := dkwX0_isImage_5 ++ dktX0_isImage_6
def dkwX0_isImage_4 : List UInt8 := [167, 255, 222, 3, 61, 28, 42, 182, 0, 189, 162, 0, 124, 5, 42, 182, 0, 186, 96, 7, 28, 104, 96, 62]
abbrev dktX0_isImage_4 : List UInt8 := dkwX0_isImage_4 ++ dktX0_isImage_5
def dkwX0_isImage_3 : List UInt8 := [28, 96, 182, 1, 138, 42, 180, 0, 31, 28, 182, 0, 196, 180, 0, 200, 161, 0, 5, 3, 172, 132, 2, 1]
abbrev dktX0_isImage_3 : List UInt8 := dkwX0_isImage_3 ++ dktX0_isImage_4
def dkwX0_isImage_2 : List UInt8 := [182, 1, 138, 128, 17, 39, 15, 164, 0, 5, 3, 172, 3, 61, 28, 42, 182, 0, 186, 162, 0, 32, 42, 5]
abbrev dktX0_isImage_2 : List UInt8 := dkwX0_isImage_2 ++ dktX0_isImage_3
def dkwX0_isImage_1 : List UInt8 := [42, 180, 0, 35, 27, 4, 100, 184, 1, 175, 160, 0, 23, 42, 3, 182, 1, 138, 16, 8, 120, 42, 4]
abbrev dktX0_isImage_1 : List UInt8 := dkwX0_isImage_1 ++ dktX0_isImage_2
def dkwX0_isImage_0 : List UInt8 := [27, 6, 42, 182, 0, 186, 96, 7, 42, 182, 0, 189, 104, 96, 160, 0, 43, 42, 27, 4, 100, 182, 1, 138]
abbrev dktX0_isImage_0 : List UInt8 := dkwX0_isImage_0 ++ dktX0_isImage_1
theorem dksX0_isImage_0 : cX0_isImage.data.toList.drop 0 = dktX0_isImage_0 := by decide +kernel
theorem dksX0_isImage_1 : cX0_isImage.data.toList.drop 24 = dktX0_isImage_1 := dk_seg dksX0_isImage_0 24 rfl rfl
theorem dksX0_isImage_2 : cX0_isImage.data.toList.drop 47 = dktX0_isImage_2 := dk_seg dksX0_isImage_1 23 rfl rfl
theorem dksX0_isImage_3 : cX0_isImage.data.toList.drop 71 = dktX0_isImage_3 := dk_seg dksX0_isImage_2 24 rfl rfl
theorem dksX0_isImage_4 : cX0_isImage.data.toList.drop 95 = dktX0_isImage_4 := dk_seg dksX0_isImage_3 24 rfl rfl
theorem dksX0_isImage_5 : cX0_isImage.data.toList.drop 119 = dktX0_isImage_5 := dk_seg dksX0_isImage_4 24 rfl rfl
theorem dksX0_isImage_6 : cX0_isImage.data.toList.drop 143 = dktX0_isImage_6 := dk_seg dksX0_isImage_5 24 rfl rfl
theorem dksX0_isImage_7 : cX0_isImage.data.toList.drop 167 = dktX0_isImage_7 := dk_seg dksX0_isImage_6 24 rfl rfl
theorem dksX0_isImage_8 : cX0_isImage.data.toList.drop 190 = dktX0_isImage_8 := dk_seg dksX0_isImage_7 23 rfl rfl
theorem dksX0_isImage_9 : cX0_isImage.data.toList.drop 214 = dktX0_isImage_9 := dk_seg dksX0_isImage_8 24 rfl rfl
theorem dX0_isImage_0 : decode cX0_isImage 0 = .ok (.iload_n 1, 1) := dk_27 (dk_at dksX0_isImage_0 0 rfl rfl)
theorem dX0_isImage_1 : decode cX0_isImage 1 = .ok (.iconst 3, 1) := dk_6 (dk_at dksX0_isImage_0 1 rfl rfl)
theorem dX0_isImage_2 : decode cX0_isImage 2 = .ok (.aload_n 0, 1) := dk_42 (dk_at dksX0_isImage_0 2 rfl rfl)
theorem dX0_isImage_3 : decode cX0_isImage 3 = .ok (.invokevirtual 186, 3) := dk_182 0 186 (dk_at dksX0_isImage_0 3 rfl rfl)
theorem dX0_isImage_6 : decode cX0_isImage 6 = .ok (.iadd, 1) := dk_96 (dk_at dksX0_isImage_0 6 rfl rfl)
theorem dX0_isImage_7 : decode cX0_isImage 7 = .ok (.iconst 4, 1) := dk_7 (dk_at dksX0_isImage_0 7 rfl rfl)
theorem dX0_isImage_8 : decode cX0_isImage 8 = .ok (.aload_n 0, 1) := dk_42 (dk_at dksX0_isImage_0 8 rfl rfl)
theorem dX0_isImage_9 : decode cX0_isImage 9 = .ok (.invokevirtual 189, 3) := dk_182 0 189 (dk_at dksX0_isImage_0 9 rfl rfl)
theorem dX0_isImage_12 : decode cX0_isImage 12 = .ok (.imul, 1) := dk_104 (dk_at dksX0_isImage_0 12 rfl rfl)
theorem dX0_isImage_13 : decode cX0_isImage 13 = .ok (.iadd, 1) := dk_96 (dk_at dksX0_isImage_0 13 rfl rfl)
theorem dX0_isImage_14 : decode cX0_isImage 14 = .ok (.if_icmp .ne 43, 3) := dk_160 0 43 (dk_at dksX0_isImage_0 14 rfl rfl)
theorem dX0_isImage_17 : decode cX0_isImage 17 = .ok (.aload_n 0, 1) := dk_42 (dk_at dksX0_isImage_0 17 rfl rfl)
theorem dX0_isImage_18 : decode cX0_isImage 18 = .ok (.iload_n 1, 1) := dk_27 (dk_at dksX0_isImage_0 18 rfl rfl)
theorem dX0_isImage_19 : decode cX0_isImage 19 = .ok (.iconst 1, 1) := dk_4 (dk_at dksX0_isImage_0 19 rfl rfl)
theorem dX0_isImage_20 : decode cX0_isImage 20 = .ok (.isub, 1) := dk_100 (dk_at dksX0_isImage_0 20 rfl rfl)
theorem dX0_isImage_21 : decode cX0_isImage 21 = .ok (.invokevirtual 394, 3) := dk_182 1 138 (dk_at dksX0_isImage_0 21 rfl rfl)
theorem dX0_isImage_24 : decode cX0_isImage 24 = .ok (.aload_n 0, 1) := dk_42 (dk_at dksX0_isImage_1 0 rfl rfl)
theorem dX0_isImage_25 : decode cX0_isImage 25 = .ok (.getfield 35, 3) := dk_180 0 35 (dk_at dksX0_isImage_1 1 rfl rfl)
theorem dX0_isImage_28 : decode cX0_isImage 28 = .ok (.iload_n 1, 1) := dk_27 (dk_at dksX0_isImage_1 4 rfl rfl)
theorem dX0_isImage_29 : decode cX0_isImage 29 = .ok (.iconst 1, 1) := dk_4 (dk_at dksX0_isImage_1 5 rfl rfl)
theorem dX0_isImage_30 : decode cX0_isImage 30 = .ok (.isub, 1) := dk_100 (dk_at dksX0_isImage_1 6 rfl rfl)
theorem dX0_isImage_31 : decode cX0_isImage 31 = .ok (.invokestatic 431, 3) := dk_184 1 175 (dk_at dksX0_isImage_1 7 rfl rfl)
theorem dX0_isImage_34 : decode cX0_isImage 34 = .ok (.if_icmp .ne 23, 3) := dk_160 0 23 (dk_at dksX0_isImage_1 10 rfl rfl)
theorem dX0_isImage_37 : decode cX0_isImage 37 = .ok (.aload_n 0, 1) := dk_42 (dk_at dksX0_isImage_1 13 rfl rfl)
theorem dX0_isImage_38 : decode cX0_isImage 38 = .ok (.iconst 0, 1) := dk_3 (dk_at dksX0_isImage_1 14 rfl rfl)
theorem dX0_isImage_39 : decode cX0_isImage 39 = .ok (.invokevirtual 394, 3) := dk_182 1 138 (dk_at dksX0_isImage_1 15 rfl rfl)
theorem dX0_isImage_42 : decode cX0_isImage 42 = .ok (.bipush 8, 2) := dk_16 8 (dk_at dksX0_isImage_1 18 rfl rfl)
theorem dX0_isImage_44 : decode cX0_isImage 44 = .ok (.ishl, 1) := dk_120 (dk_at dksX0_isImage_1 20 rfl rfl)
theorem dX0_isImage_45 : decode cX0_isImage 45 = .ok (.aload_n 0, 1) := dk_42 (dk_at dksX0_isImage_1 21 rfl rfl)
theorem dX0_isImage_46 : decode cX0_isImage 46 = .ok (.iconst 1, 1) := dk_4 (dk_at dksX0_isImage_1 22 rfl rfl)
theorem dX0_isImage_47 : decode cX0_isImage 47 = .ok (.invokevirtual 394, 3) := dk_182 1 138 (dk_at dksX0_isImage_2 0 rfl rfl)
theorem dX0_isImage_50 : decode cX0_isImage 50 = .ok (.ior, 1) := dk_128 (dk_at dksX0_isImage_2 3 rfl rfl)
theorem dX0_isImage_51 : decode cX0_isImage 51 = .ok (.sipush 9999, 3) := dk_17 39 15 (dk_at dksX0_isImage_2 4 rfl rfl)
theorem dX0_isImage_54 : decode cX0_isImage 54 = .ok (.if_icmp .le 5, 3) := dk_164 0 5 (dk_at dksX0_isImage_2 7 rfl rfl)
theorem dX0_isImage_57 : decode cX0_isImage 57 = .ok (.iconst 0, 1) := dk_3 (dk_at dksX0_isImage_2 10 rfl rfl)
theorem dX0_isImage_58 : decode cX0_isImage 58 = .ok (.ireturn, 1) := dk_172 (dk_at dksX0_isImage_2 11 rfl rfl)
theorem dX0_isImage_59 : decode cX0_isImage 59 = .ok (.iconst 0, 1) := dk_3 (dk_at dksX0_isImage_2 12 rfl rfl)
theorem dX0_isImage_60 : decode cX0_isImage 60 = .ok (.istore_n 2, 1) := dk_61 (dk_at dksX0_isImage_2 13 rfl rfl)
theorem dX0_isImage_61 : decode cX0_isImage 61 = .ok (.iload_n 2, 1) := dk_28 (dk_at dksX0_isImage_2 14 rfl rfl)
theorem dX0_isImage_62 : decode cX0_isImage 62 = .ok (.aload_n 0, 1) := dk_42 (dk_at dksX0_isImage_2 15 rfl rfl)
theorem dX0_isImage_63 : decode cX0_isImage 63 = .ok (.invokevirtual 186, 3) := dk_182 0 186 (dk_at dksX0_isImage_2 16 rfl rfl)
theorem dX0_isImage_66 : decode cX0_isImage 66 = .ok (.if_icmp .ge 32, 3) := dk_162 0 32 (dk_at dksX0_isImage_2 19 rfl rfl)
theorem dX0_isImage_69 : decode cX0_isImage 69 = .ok (.aload_n 0, 1) := dk_42 (dk_at dksX0_isImage_2 22 rfl rfl)
theorem dX0_isImage_70 : decode cX0_isImage 70 = .ok (.iconst 2, 1) := dk_5 (dk_at dksX0_isImage_2 23 rfl rfl)
theorem dX0_isImage_71 : decode cX0_isImage 71 = .ok (.iload_n 2, 1) := dk_28 (dk_at dksX0_isImage_3 0 rfl rfl)
theorem dX0_isImage_72 : decode cX0_isImage 72 = .ok (.iadd, 1) := dk_96 (dk_at dksX0_isImage_3 1 rfl rfl)
theorem dX0_isImage_73 : decode cX0_isImage 73 = .ok (.invokevirtual 394, 3) := dk_182 1 138 (dk_at dksX0_isImage_3 2 rfl rfl)
theorem dX0_isImage_76 : decode cX0_isImage 76 = .ok (.aload_n 0, 1) := dk_42 (dk_at dksX0_isImage_3 5 rfl rfl)
theorem dX0_isImage_77 : decode cX0_isImage 77 = .ok (.getfield 31, 3) := dk_180 0 31 (dk_at dksX0_isImage_3 6 rfl rfl)
theorem dX0_isImage_80 : decode cX0_isImage 80 = .ok (.iload_n 2, 1) := dk_28 (dk_at dksX0_isImage_3 9 rfl rfl)
theorem dX0_isImage_81 : decode cX0_isImage 81 = .ok (.invokevirtual 196, 3) := dk_182 0 196 (dk_at dksX0_isImage_3 10 rfl rfl)
theorem dX0_isImage_84 : decode cX0_isImage 84 = .ok (.getfield 200, 3) := dk_180 0 200 (dk_at dksX0_isImage_3 13 rfl rfl)
theorem dX0_isImage_87 : decode cX0_isImage 87 = .ok (.if_icmp .lt 5, 3) := dk_161 0 5 (dk_at dksX0_isImage_3 16 rfl rfl)
theorem dX0_isImage_90 : decode cX0_isImage 90 = .ok (.iconst 0, 1) := dk_3 (dk_at dksX0_isImage_3 19 rfl rfl)
theorem dX0_isImage_91 : decode cX0_isImage 91 = .ok (.ireturn, 1) := dk_172 (dk_at dksX0_isImage_3 20 rfl rfl)
theorem dX0_isImage_92 : decode cX0_isImage 92 = .ok (.iinc 2 1, 3) := dk_132 2 1 (dk_at dksX0_isImage_3 21 rfl rfl)
theorem dX0_isImage_95 : decode cX0_isImage 95 = .ok (.goto (-34), 3) := dk_167 255 222 (dk_at dksX0_isImage_4 0 rfl rfl)
theorem dX0_isImage_98 : decode cX0_isImage 98 = .ok (.iconst 0, 1) := dk_3 (dk_at dksX0_isImage_4 3 rfl rfl)
theorem dX0_isImage_99 : decode cX0_isImage 99 = .ok (.istore_n 2, 1) := dk_61 (dk_at dksX0_isImage_4 4 rfl rfl)
theorem dX0_isImage_100 : decode cX0_isImage 100 = .ok (.iload_n 2, 1) := dk_28 (dk_at dksX0_isImage_4 5 rfl rfl)
theorem dX0_isImage_101 : decode cX0_isImage 101 = .ok (.aload_n 0, 1) := dk_42 (dk_at dksX0_isImage_4 6 rfl rfl)
theorem dX0_isImage_102 : decode cX0_isImage 102 = .ok (.invokevirtual 189, 3) := dk_182 0 189 (dk_at dksX0_isImage_4 7 rfl rfl)
theorem dX0_isImage_105 : decode cX0_isImage 105 = .ok (.if_icmp .ge 124, 3) := dk_162 0 124 (dk_at dksX0_isImage_4 10 rfl rfl)
theorem dX0_isImage_108 : decode cX0_isImage 108 = .ok (.iconst 2, 1) := dk_5 (dk_at dksX0_isImage_4 13 rfl rfl)
theorem dX0_isImage_109 : decode cX0_isImage 109 = .ok (.aload_n 0, 1) := dk_42 (dk_at dksX0_isImage_4 14 rfl rfl)
theorem dX0_isImage_110 : decode cX0_isImage 110 = .ok (.invokevirtual 186, 3) := dk_182 0 186 (dk_at dksX0_isImage_4 15 rfl rfl)
theorem dX0_isImage_113 : decode cX0_isImage 113 = .ok (.iadd, 1) := dk_96 (dk_at dksX0_isImage_4 18 rfl rfl)
theorem dX0_isImage_114 : decode cX0_isImage 114 = .ok (.iconst 4, 1) := dk_7 (dk_at dksX0_isImage_4 19 rfl rfl)
theorem dX0_isImage_115 : decode cX0_isImage 115 = .ok (.iload_n 2, 1) := dk_28 (dk_at dksX0_isImage_4 20 rfl rfl)
theorem dX0_isImage_116 : decode cX0_isImage 116 = .ok (.imul, 1) := dk_104 (dk_at dksX0_isImage_4 21 rfl rfl)
theorem dX0_isImage_117 : decode cX0_isImage 117 = .ok (.iadd, 1) := dk_96 (dk_at dksX0_isImage_4 22 rfl rfl)
theorem dX0_isImage_118 : decode cX0_isImage 118 = .ok (.istore_n 3, 1) := dk_62 (dk_at dksX0_isImage_4 23 rfl rfl)
theorem dX0_isImage_119 : decode cX0_isImage 119 = .ok (.aload_n 0, 1) := dk_42 (dk_at dksX0_isImage_5 0 rfl rfl)
theorem dX0_isImage_120 : decode cX0_isImage 120 = .ok (.getfield 31, 3) := dk_180 0 31 (dk_at dksX0_isImage_5 1 rfl rfl)
theorem dX0_isImage_123 : decode cX0_isImage 123 = .ok (.iload_n 2, 1) := dk_28 (dk_at dksX0_isImage_5 4 rfl rfl)
theorem dX0_isImage_124 : decode cX0_isImage 124 = .ok (.invokevirtual 286, 3) := dk_182 1 30 (dk_at dksX0_isImage_5 5 rfl rfl)
theorem dX0_isImage_127 : decode cX0_isImage 127 = .ok (.astore 4, 2) := dk_58 4 (dk_at dksX0_isImage_5 8 rfl rfl)
theorem dX0_isImage_129 : decode cX0_isImage 129 = .ok (.aload_n 0, 1) := dk_42 (dk_at dksX0_isImage_5 10 rfl rfl)
theorem dX0_isImage_130 : decode cX0_isImage 130 = .ok (.iload_n 3, 1) := dk_29 (dk_at dksX0_isImage_5 11 rfl rfl)
theorem dX0_isImage_131 : decode cX0_isImage 131 = .ok (.invokevirtual 394, 3) := dk_182 1 138 (dk_at dksX0_isImage_5 12 rfl rfl)
theorem dX0_isImage_134 : decode cX0_isImage 134 = .ok (.aload 4, 2) := dk_25 4 (dk_at dksX0_isImage_5 15 rfl rfl)
theorem dX0_isImage_136 : decode cX0_isImage 136 = .ok (.getfield 435, 3) := dk_180 1 179 (dk_at dksX0_isImage_5 17 rfl rfl)
theorem dX0_isImage_139 : decode cX0_isImage 139 = .ok (.if_icmp .ne 18, 3) := dk_160 0 18 (dk_at dksX0_isImage_5 20 rfl rfl)
theorem dX0_isImage_142 : decode cX0_isImage 142 = .ok (.aload_n 0, 1) := dk_42 (dk_at dksX0_isImage_5 23 rfl rfl)
theorem dX0_isImage_143 : decode cX0_isImage 143 = .ok (.iload_n 3, 1) := dk_29 (dk_at dksX0_isImage_6 0 rfl rfl)
theorem dX0_isImage_144 : decode cX0_isImage 144 = .ok (.iconst 1, 1) := dk_4 (dk_at dksX0_isImage_6 1 rfl rfl)
theorem dX0_isImage_145 : decode cX0_isImage 145 = .ok (.iadd, 1) := dk_96 (dk_at dksX0_isImage_6 2 rfl rfl)
theorem dX0_isImage_146 : decode cX0_isImage 146 = .ok (.invokevirtual 394, 3) := dk_182 1 138 (dk_at dksX0_isImage_6 3 rfl rfl)
theorem dX0_isImage_149 : decode cX0_isImage 149 = .ok (.aload 4, 2) := dk_25 4 (dk_at dksX0_isImage_6 6 rfl rfl)
theorem dX0_isImage_151 : decode cX0_isImage 151 = .ok (.getfield 437, 3) := dk_180 1 181 (dk_at dksX0_isImage_6 8 rfl rfl)
theorem dX0_isImage_154 : decode cX0_isImage 154 = .ok (.if_icmp .eq 31, 3) := dk_159 0 31 (dk_at dksX0_isImage_6 11 rfl rfl)
theorem dX0_isImage_157 : decode cX0_isImage 157 = .ok (.aload_n 0, 1) := dk_42 (dk_at dksX0_isImage_6 14 rfl rfl)
theorem dX0_isImage_158 : decode cX0_isImage 158 = .ok (.iload_n 3, 1) := dk_29 (dk_at dksX0_isImage_6 15 rfl rfl)
theorem dX0_isImage_159 : decode cX0_isImage 159 = .ok (.invokevirtual 394, 3) := dk_182 1 138 (dk_at dksX0_isImage_6 16 rfl rfl)
theorem dX0_isImage_162 : decode cX0_isImage 162 = .ok (.aload 4, 2) := dk_25 4 (dk_at dksX0_isImage_6 19 rfl rfl)
theorem dX0_isImage_164 : decode cX0_isImage 164 = .ok (.getfield 437, 3) := dk_180 1 181 (dk_at dksX0_isImage_6 21 rfl rfl)
theorem dX0_isImage_167 : decode cX0_isImage 167 = .ok (.if_icmp .ne 22, 3) := dk_160 0 22 (dk_at dksX0_isImage_7 0 rfl rfl)
theorem dX0_isImage_170 : decode cX0_isImage 170 = .ok (.aload_n 0, 1) := dk_42 (dk_at dksX0_isImage_7 3 rfl rfl)
theorem dX0_isImage_171 : decode cX0_isImage 171 = .ok (.iload_n 3, 1) := dk_29 (dk_at dksX0_isImage_7 4 rfl rfl)
theorem dX0_isImage_172 : decode cX0_isImage 172 = .ok (.iconst 1, 1) := dk_4 (dk_at dksX0_isImage_7 5 rfl rfl)
theorem dX0_isImage_173 : decode cX0_isImage 173 = .ok (.iadd, 1) := dk_96 (dk_at dksX0_isImage_7 6 rfl rfl)
theorem dX0_isImage_174 : decode cX0_isImage 174 = .ok (.invokevirtual 394, 3) := dk_182 1 138 (dk_at dksX0_isImage_7 7 rfl rfl)
theorem dX0_isImage_177 : decode cX0_isImage 177 = .ok (.aload 4, 2) := dk_25 4 (dk_at dksX0_isImage_7 10 rfl rfl)
theorem dX0_isImage_179 : decode cX0_isImage 179 = .ok (.getfield 435, 3) := dk_180 1 179 (dk_at dksX0_isImage_7 12 rfl rfl)
theorem dX0_isImage_182 : decode cX0_isImage 182 = .ok (.if_icmp .ne 7, 3) := dk_160 0 7 (dk_at dksX0_isImage_7 15 rfl rfl)
theorem dX0_isImage_185 : decode cX0_isImage 185 = .ok (.iconst 1, 1) := dk_4 (dk_at dksX0_isImage_7 18 rfl rfl)
theorem dX0_isImage_186 : decode cX0_isImage 186 = .ok (.goto 4, 3) := dk_167 0 4 (dk_at dksX0_isImage_7 19 rfl rfl)
theorem dX0_isImage_189 : decode cX0_isImage 189 = .ok (.iconst 0, 1) := dk_3 (dk_at dksX0_isImage_7 22 rfl rfl)
theorem dX0_isImage_190 : decode cX0_isImage 190 = .ok (.istore 5, 2) := dk_54 5 (dk_at dksX0_isImage_8 0 rfl rfl)
theorem dX0_isImage_192 : decode cX0_isImage 192 = .ok (.iload 5, 2) := dk_21 5 (dk_at dksX0_isImage_8 2 rfl rfl)
theorem dX0_isImage_194 : decode cX0_isImage 194 = .ok (.ifCond .eq 27, 3) := dk_153 0 27 (dk_at dksX0_isImage_8 4 rfl rfl)
theorem dX0_isImage_197 : decode cX0_isImage 197 = .ok (.aload_n 0, 1) := dk_42 (dk_at dksX0_isImage_8 7 rfl rfl)
theorem dX0_isImage_198 : decode cX0_isImage 198 = .ok (.iload_n 3, 1) := dk_29 (dk_at dksX0_isImage_8 8 rfl rfl)
theorem dX0_isImage_199 : decode cX0_isImage 199 = .ok (.iconst 2, 1) := dk_5 (dk_at dksX0_isImage_8 9 rfl rfl)
theorem dX0_isImage_200 : decode cX0_isImage 200 = .ok (.iadd, 1) := dk_96 (dk_at dksX0_isImage_8 10 rfl rfl)
theorem dX0_isImage_201 : decode cX0_isImage 201 = .ok (.invokevirtual 394, 3) := dk_182 1 138 (dk_at dksX0_isImage_8 11 rfl rfl)
theorem dX0_isImage_204 : decode cX0_isImage 204 = .ok (.bipush 8, 2) := dk_16 8 (dk_at dksX0_isImage_8 14 rfl rfl)
theorem dX0_isImage_206 : decode cX0_isImage 206 = .ok (.ishl, 1) := dk_120 (dk_at dksX0_isImage_8 16 rfl rfl)
theorem dX0_isImage_207 : decode cX0_isImage 207 = .ok (.aload_n 0, 1) := dk_42 (dk_at dksX0_isImage_8 17 rfl rfl)
theorem dX0_isImage_208 : decode cX0_isImage 208 = .ok (.iload_n 3, 1) := dk_29 (dk_at dksX0_isImage_8 18 rfl rfl)
theorem dX0_isImage_209 : decode cX0_isImage 209 = .ok (.iconst 3, 1) := dk_6 (dk_at dksX0_isImage_8 19 rfl rfl)
theorem dX0_isImage_210 : decode cX0_isImage 210 = .ok (.iadd, 1) := dk_96 (dk_at dksX0_isImage_8 20 rfl rfl)
theorem dX0_isImage_211 : decode cX0_isImage 211 = .ok (.invokevirtual 394, 3) := dk_182 1 138 (dk_at dksX0_isImage_8 21 rfl rfl)
theorem dX0_isImage_214 : decode cX0_isImage 214 = .ok (.ior, 1) := dk_128 (dk_at dksX0_isImage_9 0 rfl rfl)
theorem dX0_isImage_215 : decode cX0_isImage 215 = .ok (.sipush 9999, 3) := dk_17 39 15 (dk_at dksX0_isImage_9 1 rfl rfl)
theorem dX0_isImage_218 : decode cX0_isImage 218 = .ok (.if_icmp .le 5, 3) := dk_164 0 5 (dk_at dksX0_isImage_9 4 rfl rfl)
theorem dX0_isImage_221 : decode cX0_isImage 221 = .ok (.iconst 0, 1) := dk_3 (dk_at dksX0_isImage_9 7 rfl rfl)
theorem dX0_isImage_222 : decode cX0_isImage 222 = .ok (.ireturn, 1) := dk_172 (dk_at dksX0_isImage_9 8 rfl rfl)
theorem dX0_isImage_223 : decode cX0_isImage 223 = .ok (.iinc 2 1, 3) := dk_132 2 1 (dk_at dksX0_isImage_9 9 rfl rfl)
theorem dX0_isImage_226 : decode cX0_isImage 226 = .ok (.goto (-126), 3) := dk_167 255 130 (dk_at dksX0_isImage_9 12 rfl rfl)
theorem dX0_isImage_229 : decode cX0_isImage 229 = .ok (.iconst 1, 1) := dk_4 (dk_at dksX0_isImage_9 15 rfl rfl)
theorem dX0_isImage_230 : decode cX0_isImage 230 = .ok (.ireturn, 1) := dk_172 (dk_at dksX0_isImage_9 16 rfl rfl)
abbrev cX0_status : ByteArray := prog_1_method_81_code
def yX0_status : MethodName := ⟨RX0, "status", "(I)I"⟩
def dkwX0_status_0 : List UInt8 := [27, 3, 8, 184, 0, 192, 153, 0, 12, 42, 180, 0, 62, 27, 46, 167, 0, 4, 2, 172]
abbrev dktX0_status_0 : List UInt8 := dkwX0_status_0 ++ []
theorem dksX0_status_0 : cX0_status.data.toList.drop 0 = dktX0_status_0 := by decide +kernel
theorem dX0_status_0 : decode cX0_status 0 = .ok (.iload_n 1, 1) := dk_27 (dk_at dksX0_status_0 0 rfl rfl)
theorem dX0_status_1 : decode cX0_status 1 = .ok (.iconst 0, 1) := dk_3 (dk_at dksX0_status_0 1 rfl rfl)
theorem dX0_status_2 : decode cX0_status 2 = .ok (.iconst 5, 1) := dk_8 (dk_at dksX0_status_0 2 rfl rfl)
theorem dX0_status_3 : decode cX0_status 3 = .ok (.invokestatic 192, 3) := dk_184 0 192 (dk_at dksX0_status_0 3 rfl rfl)
theorem dX0_status_6 : decode cX0_status 6 = .ok (.ifCond .eq 12, 3) := dk_153 0 12 (dk_at dksX0_status_0 6 rfl rfl)
theorem dX0_status_9 : decode cX0_status 9 = .ok (.aload_n 0, 1) := dk_42 (dk_at dksX0_status_0 9 rfl rfl)
theorem dX0_status_10 : decode cX0_status 10 = .ok (.getfield 62, 3) := dk_180 0 62 (dk_at dksX0_status_0 10 rfl rfl)
theorem dX0_status_13 : decode cX0_status 13 = .ok (.iload_n 1, 1) := dk_27 (dk_at dksX0_status_0 13 rfl rfl)
theorem dX0_status_14 : decode cX0_status 14 = .ok (.iaload, 1) := dk_46 (dk_at dksX0_status_0 14 rfl rfl)
theorem dX0_status_15 : decode cX0_status 15 = .ok (.goto 4, 3) := dk_167 0 4 (dk_at dksX0_status_0 15 rfl rfl)
theorem dX0_status_18 : decode cX0_status 18 = .ok (.iconst (-1), 1) := dk_2 (dk_at dksX0_status_0 18 rfl rfl)
theorem dX0_status_19 : decode cX0_status 19 = .ok (.ireturn, 1) := dk_172 (dk_at dksX0_status_0 19 rfl rfl)
theorem q177 : (Jvm.Cond.initialized "BreathTown") ∈ lw_all := lw_g (lw_at lw_m1 1 rfl) rfl
theorem q218 : (Jvm.Cond.instantiable "BreathTown" (35 : Nat)) ∈ lw_all := lw_g (lw_at lw_m1 42 rfl) rfl
theorem q220 : (Jvm.Cond.instanceMethod ({ cls := "BreathTown", name := "<init>", desc := "()V" } : Jvm.MethodName)) ∈ lw_all := lw_g (lw_at lw_m1 44 rfl) rfl
theorem q221 : (Jvm.Cond.code ({ cls := "BreathTown", name := "<init>", desc := "()V" } : Jvm.MethodName) prog_1_method_7_code (2 : Nat) (Option.none : Option Jvm.ClassFile.FieldType)) ∈ lw_all := lw_g (lw_at lw_m1 45 rfl) rfl
theorem q222 : (Jvm.Cond.methodLink "BreathTown" (22 : Nat) ({ cls := "java/lang/Object", name := "<init>", desc := "()V" } : Jvm.MethodName)) ∈ lw_all := lw_g (lw_at lw_m1 46 rfl) rfl
theorem q225 : (Jvm.Cond.classLink "BreathTown" (28 : Nat) "BreathTown$Town") ∈ lw_all := lw_g (lw_at lw_m1 49 rfl) rfl
theorem q227 : (Jvm.Cond.methodLinkNest "BreathTown" (30 : Nat) ({ cls := "BreathTown$Town", name := "<init>", desc := "()V" } : Jvm.MethodName) "BreathTown") ∈ lw_tbl := lw_at lw_m1 51 rfl
theorem q261 : (Jvm.Cond.fieldLinkNest "BreathTown" (168 : Nat) "BreathTown$Town" "places" "Ljava/util/List;" "BreathTown") ∈ lw_tbl := lw_at lw_m1 85 rfl
theorem q264 : (Jvm.Cond.fieldLinkNest "BreathTown" (177 : Nat) "BreathTown$Town" "streets" "Ljava/util/List;" "BreathTown") ∈ lw_tbl := lw_at lw_m1 88 rfl
theorem q267 : (Jvm.Cond.fieldLinkNest "BreathTown" (180 : Nat) "BreathTown$Town" "walkers" "Ljava/util/List;" "BreathTown") ∈ lw_tbl := lw_at lw_m1 91 rfl
theorem q268 : (Jvm.Cond.fieldLinkNest "BreathTown" (165 : Nat) "BreathTown$Town" "statements" "I" "BreathTown") ∈ lw_tbl := lw_at lw_m1 92 rfl
theorem q283 : (Jvm.Cond.classLink "BreathTown" (43 : Nat) "BreathTown$Reader") ∈ lw_all := lw_g (lw_at lw_m1 107 rfl) rfl
theorem q285 : (Jvm.Cond.methodLinkNest "BreathTown" (45 : Nat) ({ cls := "BreathTown$Reader", name := "<init>", desc := "(LBreathTown;)V" } : Jvm.MethodName) "BreathTown") ∈ lw_tbl := lw_at lw_m1 109 rfl
theorem q341 : (Jvm.Cond.fieldLinkNest "BreathTown" (150 : Nat) "BreathTown$Fault" "kind" "I" "BreathTown") ∈ lw_tbl := lw_at lw_m1 165 rfl
theorem q343 : (Jvm.Cond.fieldLinkNest "BreathTown" (153 : Nat) "BreathTown$Fault" "place" "I" "BreathTown") ∈ lw_tbl := lw_at lw_m1 167 rfl
theorem q387 : (Jvm.Cond.classLink "BreathTown" (52 : Nat) "BreathTown$Moment") ∈ lw_all := lw_g (lw_at lw_m1 211 rfl) rfl
theorem q389 : (Jvm.Cond.methodLinkNest "BreathTown" (54 : Nat) ({ cls := "BreathTown$Moment", name := "<init>", desc := "()V" } : Jvm.MethodName) "BreathTown") ∈ lw_tbl := lw_at lw_m1 213 rfl
theorem q395 : (Jvm.Cond.fieldLinkNest "BreathTown" (205 : Nat) "BreathTown$Moment" "of" "[J" "BreathTown") ∈ lw_tbl := lw_at lw_m1 219 rfl
theorem q400 : (Jvm.Cond.classLink "BreathTown" (66 : Nat) "BreathTown$State") ∈ lw_all := lw_g (lw_at lw_m1 224 rfl) rfl
theorem q402 : (Jvm.Cond.methodLinkNest "BreathTown" (68 : Nat) ({ cls := "BreathTown$State", name := "<init>", desc := "(LBreathTown;)V" } : Jvm.MethodName) "BreathTown") ∈ lw_tbl := lw_at lw_m1 226 rfl
theorem q407 : (Jvm.Cond.fieldLinkNest "BreathTown" (259 : Nat) "BreathTown$State" "hour" "I" "BreathTown") ∈ lw_tbl := lw_at lw_m1 231 rfl
theorem q409 : (Jvm.Cond.fieldLinkNest "BreathTown" (225 : Nat) "BreathTown$State" "shift" "[I" "BreathTown") ∈ lw_tbl := lw_at lw_m1 233 rfl
theorem q411 : (Jvm.Cond.fieldLinkNest "BreathTown" (295 : Nat) "BreathTown$State" "at" "[I" "BreathTown") ∈ lw_tbl := lw_at lw_m1 235 rfl
theorem q413 : (Jvm.Cond.fieldLinkNest "BreathTown" (297 : Nat) "BreathTown$State" "to" "[I" "BreathTown") ∈ lw_tbl := lw_at lw_m1 237 rfl
theorem q415 : (Jvm.Cond.fieldLinkNest "BreathTown" (265 : Nat) "BreathTown$State" "free" "[I" "BreathTown") ∈ lw_tbl := lw_at lw_m1 239 rfl
theorem q431 : (Jvm.Cond.classLink "BreathTown" (73 : Nat) "[[I") ∈ lw_all := lw_g (lw_at lw_m2 15 rfl) rfl
theorem q435 : (Jvm.Cond.fieldLink "BreathTown" (31 : Nat) "BreathTown" "town" "LBreathTown$Town;") ∈ lw_all := lw_g (lw_at lw_m2 19 rfl) rfl
theorem q437 : (Jvm.Cond.fieldLink "BreathTown" (35 : Nat) "BreathTown" "tape" "[B") ∈ lw_all := lw_g (lw_at lw_m2 21 rfl) rfl
theorem q438 : (Jvm.Cond.fieldLink "BreathTown" (126 : Nat) "BreathTown" "taped" "I") ∈ lw_all := lw_g (lw_at lw_m2 22 rfl) rfl
theorem q439 : (Jvm.Cond.fieldLink "BreathTown" (137 : Nat) "BreathTown" "faultKind" "I") ∈ lw_all := lw_g (lw_at lw_m2 23 rfl) rfl
theorem q440 : (Jvm.Cond.fieldLink "BreathTown" (39 : Nat) "BreathTown" "faultPlace" "I") ∈ lw_all := lw_g (lw_at lw_m2 24 rfl) rfl
theorem q441 : (Jvm.Cond.fieldLink "BreathTown" (48 : Nat) "BreathTown" "reader" "LBreathTown$Reader;") ∈ lw_all := lw_g (lw_at lw_m2 25 rfl) rfl
theorem q442 : (Jvm.Cond.fieldLink "BreathTown" (55 : Nat) "BreathTown" "moment" "LBreathTown$Moment;") ∈ lw_all := lw_g (lw_at lw_m2 26 rfl) rfl
theorem q443 : (Jvm.Cond.fieldLink "BreathTown" (59 : Nat) "BreathTown" "tides" "LBreathTown$Moment;") ∈ lw_all := lw_g (lw_at lw_m2 27 rfl) rfl
theorem q444 : (Jvm.Cond.fieldLink "BreathTown" (62 : Nat) "BreathTown" "refused" "[I") ∈ lw_all := lw_g (lw_at lw_m2 28 rfl) rfl
theorem q445 : (Jvm.Cond.fieldLink "BreathTown" (69 : Nat) "BreathTown" "now" "LBreathTown$State;") ∈ lw_all := lw_g (lw_at lw_m2 29 rfl) rfl
theorem q446 : (Jvm.Cond.fieldLink "BreathTown" (75 : Nat) "BreathTown" "others" "[[I") ∈ lw_all := lw_g (lw_at lw_m2 30 rfl) rfl
theorem q447 : (Jvm.Cond.fieldLink "BreathTown" (235 : Nat) "BreathTown" "othersMany" "I") ∈ lw_all := lw_g (lw_at lw_m2 31 rfl) rfl
theorem q448 : (Jvm.Cond.fieldLink "BreathTown" (78 : Nat) "BreathTown" "gone" "I") ∈ lw_all := lw_g (lw_at lw_m2 32 rfl) rfl
theorem q449 : (Jvm.Cond.fieldLink "BreathTown" (81 : Nat) "BreathTown" "soonest" "[I") ∈ lw_all := lw_g (lw_at lw_m2 33 rfl) rfl
theorem q450 : (Jvm.Cond.fieldLink "BreathTown" (84 : Nat) "BreathTown" "done" "[Z") ∈ lw_all := lw_g (lw_at lw_m2 34 rfl) rfl
theorem q451 : (Jvm.Cond.fieldLink "BreathTown" (88 : Nat) "BreathTown" "wayStreet" "[I") ∈ lw_all := lw_g (lw_at lw_m2 35 rfl) rfl
theorem q452 : (Jvm.Cond.fieldLink "BreathTown" (91 : Nat) "BreathTown" "wayHour" "[I") ∈ lw_all := lw_g (lw_at lw_m2 36 rfl) rfl
theorem q453 : (Jvm.Cond.fieldLink "BreathTown" (316 : Nat) "BreathTown" "wayLong" "I") ∈ lw_all := lw_g (lw_at lw_m2 37 rfl) rfl
theorem q454 : (Jvm.Cond.fieldLink "BreathTown" (301 : Nat) "BreathTown" "setOut" "I") ∈ lw_all := lw_g (lw_at lw_m2 38 rfl) rfl
theorem q455 : (Jvm.Cond.fieldLink "BreathTown" (94 : Nat) "BreathTown" "together" "[I") ∈ lw_all := lw_g (lw_at lw_m2 39 rfl) rfl
theorem q456 : (Jvm.Cond.fieldLink "BreathTown" (97 : Nat) "BreathTown" "order" "[I") ∈ lw_all := lw_g (lw_at lw_m2 40 rfl) rfl
theorem q457 : (Jvm.Cond.fieldLink "BreathTown" (100 : Nat) "BreathTown" "arrives" "[I") ∈ lw_all := lw_g (lw_at lw_m2 41 rfl) rfl
theorem q458 : (Jvm.Cond.fieldLink "BreathTown" (103 : Nat) "BreathTown" "bestOrder" "[I") ∈ lw_all := lw_g (lw_at lw_m2 42 rfl) rfl
theorem q459 : (Jvm.Cond.fieldLink "BreathTown" (106 : Nat) "BreathTown" "bestArrives" "[I") ∈ lw_all := lw_g (lw_at lw_m2 43 rfl) rfl
theorem q460 : (Jvm.Cond.fieldLink "BreathTown" (349 : Nat) "BreathTown" "bestLast" "I") ∈ lw_all := lw_g (lw_at lw_m2 44 rfl) rfl
theorem q461 : (Jvm.Cond.fieldLink "BreathTown" (352 : Nat) "BreathTown" "bestSum" "I") ∈ lw_all := lw_g (lw_at lw_m2 45 rfl) rfl
theorem q462 : (Jvm.Cond.fieldLink "BreathTown" (109 : Nat) "BreathTown" "inTime" "[[I") ∈ lw_all := lw_g (lw_at lw_m2 46 rfl) rfl
theorem q463 : (Jvm.Cond.fieldLink "BreathTown" (112 : Nat) "BreathTown" "kept" "[LBreathTown$State;") ∈ lw_all := lw_g (lw_at lw_m2 47 rfl) rfl
theorem q464 : (Jvm.Cond.fieldLink "BreathTown" (159 : Nat) "BreathTown" "undos" "I") ∈ lw_all := lw_g (lw_at lw_m2 48 rfl) rfl
theorem q465 : (Jvm.Cond.fieldLink "BreathTown" (116 : Nat) "BreathTown" "seeds" "J") ∈ lw_all := lw_g (lw_at lw_m2 49 rfl) rfl
theorem q466 : (Jvm.Cond.fieldLink "BreathTown" (120 : Nat) "BreathTown" "sight" "[[I") ∈ lw_all := lw_g (lw_at lw_m2 50 rfl) rfl
theorem q467 : (Jvm.Cond.fieldLink "BreathTown" (162 : Nat) "BreathTown" "sights" "I") ∈ lw_all := lw_g (lw_at lw_m2 51 rfl) rfl
theorem q468 : (Jvm.Cond.fieldLink "BreathTown" (406 : Nat) "BreathTown" "askedHour" "I") ∈ lw_all := lw_g (lw_at lw_m2 52 rfl) rfl
theorem q469 : (Jvm.Cond.fieldLink "BreathTown" (123 : Nat) "BreathTown" "out" "[B") ∈ lw_all := lw_g (lw_at lw_m2 53 rfl) rfl
theorem q470 : (Jvm.Cond.fieldLink "BreathTown" (425 : Nat) "BreathTown" "outs" "I") ∈ lw_all := lw_g (lw_at lw_m2 54 rfl) rfl
theorem q471 : (Jvm.Cond.lays "BreathTown" "BreathTown" "town" "LBreathTown$Town;") ∈ lw_all := lw_g (lw_at lw_m2 55 rfl) rfl
theorem q472 : (Jvm.Cond.soleField "BreathTown" "town") ∈ lw_all := lw_g (lw_at lw_m2 56 rfl) rfl
theorem q473 : (Jvm.Cond.laysFinal "BreathTown" "BreathTown" "tape" "[B") ∈ lw_all := lw_g (lw_at lw_m2 57 rfl) rfl
theorem q474 : (Jvm.Cond.soleField "BreathTown" "tape") ∈ lw_all := lw_g (lw_at lw_m2 58 rfl) rfl
theorem q475 : (Jvm.Cond.lays "BreathTown" "BreathTown" "taped" "I") ∈ lw_all := lw_g (lw_at lw_m2 59 rfl) rfl
theorem q476 : (Jvm.Cond.soleField "BreathTown" "taped") ∈ lw_all := lw_g (lw_at lw_m2 60 rfl) rfl
theorem q477 : (Jvm.Cond.lays "BreathTown" "BreathTown" "faultKind" "I") ∈ lw_all := lw_g (lw_at lw_m2 61 rfl) rfl
theorem q478 : (Jvm.Cond.soleField "BreathTown" "faultKind") ∈ lw_all := lw_g (lw_at lw_m2 62 rfl) rfl
theorem q479 : (Jvm.Cond.lays "BreathTown" "BreathTown" "faultPlace" "I") ∈ lw_all := lw_g (lw_at lw_m2 63 rfl) rfl
theorem q480 : (Jvm.Cond.soleField "BreathTown" "faultPlace") ∈ lw_all := lw_g (lw_at lw_m2 64 rfl) rfl
theorem q481 : (Jvm.Cond.laysFinal "BreathTown" "BreathTown" "reader" "LBreathTown$Reader;") ∈ lw_all := lw_g (lw_at lw_m2 65 rfl) rfl
theorem q482 : (Jvm.Cond.soleField "BreathTown" "reader") ∈ lw_all := lw_g (lw_at lw_m2 66 rfl) rfl
theorem q483 : (Jvm.Cond.laysFinal "BreathTown" "BreathTown" "moment" "LBreathTown$Moment;") ∈ lw_all := lw_g (lw_at lw_m2 67 rfl) rfl
theorem q484 : (Jvm.Cond.soleField "BreathTown" "moment") ∈ lw_all := lw_g (lw_at lw_m2 68 rfl) rfl
theorem q485 : (Jvm.Cond.laysFinal "BreathTown" "BreathTown" "tides" "LBreathTown$Moment;") ∈ lw_all := lw_g (lw_at lw_m2 69 rfl) rfl
theorem q486 : (Jvm.Cond.soleField "BreathTown" "tides") ∈ lw_all := lw_g (lw_at lw_m2 70 rfl) rfl
theorem q487 : (Jvm.Cond.laysFinal "BreathTown" "BreathTown" "refused" "[I") ∈ lw_all := lw_g (lw_at lw_m2 71 rfl) rfl
theorem q488 : (Jvm.Cond.soleField "BreathTown" "refused") ∈ lw_all := lw_g (lw_at lw_m2 72 rfl) rfl
theorem q489 : (Jvm.Cond.laysFinal "BreathTown" "BreathTown" "now" "LBreathTown$State;") ∈ lw_all := lw_g (lw_at lw_m2 73 rfl) rfl
theorem q490 : (Jvm.Cond.soleField "BreathTown" "now") ∈ lw_all := lw_g (lw_at lw_m2 74 rfl) rfl
theorem q491 : (Jvm.Cond.laysFinal "BreathTown" "BreathTown" "others" "[[I") ∈ lw_all := lw_g (lw_at lw_m2 75 rfl) rfl
theorem q492 : (Jvm.Cond.soleField "BreathTown" "others") ∈ lw_all := lw_g (lw_at lw_m2 76 rfl) rfl
theorem q493 : (Jvm.Cond.lays "BreathTown" "BreathTown" "othersMany" "I") ∈ lw_all := lw_g (lw_at lw_m2 77 rfl) rfl
theorem q494 : (Jvm.Cond.soleField "BreathTown" "othersMany") ∈ lw_all := lw_g (lw_at lw_m2 78 rfl) rfl
theorem q495 : (Jvm.Cond.lays "BreathTown" "BreathTown" "gone" "I") ∈ lw_all := lw_g (lw_at lw_m2 79 rfl) rfl
theorem q496 : (Jvm.Cond.soleField "BreathTown" "gone") ∈ lw_all := lw_g (lw_at lw_m2 80 rfl) rfl
theorem q497 : (Jvm.Cond.laysFinal "BreathTown" "BreathTown" "soonest" "[I") ∈ lw_all := lw_g (lw_at lw_m2 81 rfl) rfl
theorem q498 : (Jvm.Cond.soleField "BreathTown" "soonest") ∈ lw_all := lw_g (lw_at lw_m2 82 rfl) rfl
theorem q499 : (Jvm.Cond.laysFinal "BreathTown" "BreathTown" "done" "[Z") ∈ lw_all := lw_g (lw_at lw_m2 83 rfl) rfl
theorem q500 : (Jvm.Cond.soleField "BreathTown" "done") ∈ lw_all := lw_g (lw_at lw_m2 84 rfl) rfl
theorem q501 : (Jvm.Cond.laysFinal "BreathTown" "BreathTown" "wayStreet" "[I") ∈ lw_all := lw_g (lw_at lw_m2 85 rfl) rfl
theorem q502 : (Jvm.Cond.soleField "BreathTown" "wayStreet") ∈ lw_all := lw_g (lw_at lw_m2 86 rfl) rfl
theorem q503 : (Jvm.Cond.laysFinal "BreathTown" "BreathTown" "wayHour" "[I") ∈ lw_all := lw_g (lw_at lw_m2 87 rfl) rfl
theorem q504 : (Jvm.Cond.soleField "BreathTown" "wayHour") ∈ lw_all := lw_g (lw_at lw_m2 88 rfl) rfl
theorem q505 : (Jvm.Cond.lays "BreathTown" "BreathTown" "wayLong" "I") ∈ lw_all := lw_g (lw_at lw_m2 89 rfl) rfl
theorem q506 : (Jvm.Cond.soleField "BreathTown" "wayLong") ∈ lw_all := lw_g (lw_at lw_m2 90 rfl) rfl
theorem q507 : (Jvm.Cond.lays "BreathTown" "BreathTown" "setOut" "I") ∈ lw_all := lw_g (lw_at lw_m2 91 rfl) rfl
theorem q508 : (Jvm.Cond.soleField "BreathTown" "setOut") ∈ lw_all := lw_g (lw_at lw_m2 92 rfl) rfl
theorem q509 : (Jvm.Cond.laysFinal "BreathTown" "BreathTown" "together" "[I") ∈ lw_all := lw_g (lw_at lw_m2 93 rfl) rfl
theorem q510 : (Jvm.Cond.soleField "BreathTown" "together") ∈ lw_all := lw_g (lw_at lw_m2 94 rfl) rfl
theorem q511 : (Jvm.Cond.laysFinal "BreathTown" "BreathTown" "order" "[I") ∈ lw_all := lw_g (lw_at lw_m2 95 rfl) rfl
theorem q512 : (Jvm.Cond.soleField "BreathTown" "order") ∈ lw_all := lw_g (lw_at lw_m2 96 rfl) rfl
theorem q513 : (Jvm.Cond.laysFinal "BreathTown" "BreathTown" "arrives" "[I") ∈ lw_all := lw_g (lw_at lw_m2 97 rfl) rfl
theorem q514 : (Jvm.Cond.soleField "BreathTown" "arrives") ∈ lw_all := lw_g (lw_at lw_m2 98 rfl) rfl
theorem q515 : (Jvm.Cond.laysFinal "BreathTown" "BreathTown" "bestOrder" "[I") ∈ lw_all := lw_g (lw_at lw_m2 99 rfl) rfl
theorem q516 : (Jvm.Cond.soleField "BreathTown" "bestOrder") ∈ lw_all := lw_g (lw_at lw_m2 100 rfl) rfl
theorem q517 : (Jvm.Cond.laysFinal "BreathTown" "BreathTown" "bestArrives" "[I") ∈ lw_all := lw_g (lw_at lw_m2 101 rfl) rfl
theorem q518 : (Jvm.Cond.soleField "BreathTown" "bestArrives") ∈ lw_all := lw_g (lw_at lw_m2 102 rfl) rfl
theorem q519 : (Jvm.Cond.lays "BreathTown" "BreathTown" "bestLast" "I") ∈ lw_all := lw_g (lw_at lw_m2 103 rfl) rfl
theorem q520 : (Jvm.Cond.soleField "BreathTown" "bestLast") ∈ lw_all := lw_g (lw_at lw_m2 104 rfl) rfl
theorem q521 : (Jvm.Cond.lays "BreathTown" "BreathTown" "bestSum" "I") ∈ lw_all := lw_g (lw_at lw_m2 105 rfl) rfl
theorem q522 : (Jvm.Cond.soleField "BreathTown" "bestSum") ∈ lw_all := lw_g (lw_at lw_m2 106 rfl) rfl
theorem q523 : (Jvm.Cond.laysFinal "BreathTown" "BreathTown" "inTime" "[[I") ∈ lw_all := lw_g (lw_at lw_m2 107 rfl) rfl
theorem q524 : (Jvm.Cond.soleField "BreathTown" "inTime") ∈ lw_all := lw_g (lw_at lw_m2 108 rfl) rfl
theorem q525 : (Jvm.Cond.laysFinal "BreathTown" "BreathTown" "kept" "[LBreathTown$State;") ∈ lw_all := lw_g (lw_at lw_m2 109 rfl) rfl
theorem q526 : (Jvm.Cond.soleField "BreathTown" "kept") ∈ lw_all := lw_g (lw_at lw_m2 110 rfl) rfl
theorem q527 : (Jvm.Cond.lays "BreathTown" "BreathTown" "undos" "I") ∈ lw_all := lw_g (lw_at lw_m2 111 rfl) rfl
theorem q528 : (Jvm.Cond.soleField "BreathTown" "undos") ∈ lw_all := lw_g (lw_at lw_m2 112 rfl) rfl
theorem q529 : (Jvm.Cond.lays "BreathTown" "BreathTown" "seeds" "J") ∈ lw_all := lw_g (lw_at lw_m2 113 rfl) rfl
theorem q530 : (Jvm.Cond.soleField "BreathTown" "seeds") ∈ lw_all := lw_g (lw_at lw_m2 114 rfl) rfl
theorem q531 : (Jvm.Cond.laysFinal "BreathTown" "BreathTown" "sight" "[[I") ∈ lw_all := lw_g (lw_at lw_m2 115 rfl) rfl
theorem q532 : (Jvm.Cond.soleField "BreathTown" "sight") ∈ lw_all := lw_g (lw_at lw_m2 116 rfl) rfl
theorem q533 : (Jvm.Cond.lays "BreathTown" "BreathTown" "sights" "I") ∈ lw_all := lw_g (lw_at lw_m2 117 rfl) rfl
theorem q534 : (Jvm.Cond.soleField "BreathTown" "sights") ∈ lw_all := lw_g (lw_at lw_m2 118 rfl) rfl
theorem q535 : (Jvm.Cond.lays "BreathTown" "BreathTown" "askedHour" "I") ∈ lw_all := lw_g (lw_at lw_m2 119 rfl) rfl
theorem q536 : (Jvm.Cond.soleField "BreathTown" "askedHour") ∈ lw_all := lw_g (lw_at lw_m2 120 rfl) rfl
theorem q537 : (Jvm.Cond.laysFinal "BreathTown" "BreathTown" "out" "[B") ∈ lw_all := lw_g (lw_at lw_m2 121 rfl) rfl
theorem q538 : (Jvm.Cond.soleField "BreathTown" "out") ∈ lw_all := lw_g (lw_at lw_m2 122 rfl) rfl
theorem q539 : (Jvm.Cond.lays "BreathTown" "BreathTown" "outs" "I") ∈ lw_all := lw_g (lw_at lw_m2 123 rfl) rfl
theorem q540 : (Jvm.Cond.soleField "BreathTown" "outs") ∈ lw_all := lw_g (lw_at lw_m2 124 rfl) rfl
theorem q541 : (Jvm.Cond.superclass "BreathTown" "java/lang/Object") ∈ lw_all := lw_g (lw_at lw_m2 125 rfl) rfl
theorem q544 : (Jvm.Cond.instanceMethod ({ cls := "BreathTown", name := "feed", desc := "(IIIII)I" } : Jvm.MethodName)) ∈ lw_all := lw_g (lw_at lw_m2 128 rfl) rfl
theorem q545 : (Jvm.Cond.selects "BreathTown" ({ cls := "BreathTown", name := "feed", desc := "(IIIII)I" } : Jvm.MethodName) ({ cls := "BreathTown", name := "feed", desc := "(IIIII)I" } : Jvm.MethodName)) ∈ lw_all := lw_g (lw_at lw_m2 129 rfl) rfl
theorem q546 : (Jvm.Cond.code ({ cls := "BreathTown", name := "feed", desc := "(IIIII)I" } : Jvm.MethodName) prog_1_method_10_code (6 : Nat) (Option.some Jvm.ClassFile.FieldType.int)) ∈ lw_all := lw_g (lw_at lw_m2 130 rfl) rfl
theorem q547 : (Jvm.Cond.methodLink "BreathTown" (129 : Nat) ({ cls := "BreathTown", name := "refuses", desc := "(I)I" } : Jvm.MethodName)) ∈ lw_all := lw_g (lw_at lw_m2 131 rfl) rfl
theorem q548 : (Jvm.Cond.privateMethod ({ cls := "BreathTown", name := "refuses", desc := "(I)I" } : Jvm.MethodName)) ∈ lw_tbl := lw_at lw_m2 132 rfl
theorem q549 : (Jvm.Cond.instanceMethod ({ cls := "BreathTown", name := "refuses", desc := "(I)I" } : Jvm.MethodName)) ∈ lw_all := lw_g (lw_at lw_m2 133 rfl) rfl
theorem q550 : (Jvm.Cond.code ({ cls := "BreathTown", name := "refuses", desc := "(I)I" } : Jvm.MethodName) prog_1_method_8_code (2 : Nat) (Option.some Jvm.ClassFile.FieldType.int)) ∈ lw_all := lw_g (lw_at lw_m2 134 rfl) rfl
theorem q551 : (Jvm.Cond.methodLink "BreathTown" (133 : Nat) ({ cls := "BreathTown", name := "put", desc := "(I)V" } : Jvm.MethodName)) ∈ lw_all := lw_g (lw_at lw_m2 135 rfl) rfl
theorem q552 : (Jvm.Cond.privateMethod ({ cls := "BreathTown", name := "put", desc := "(I)V" } : Jvm.MethodName)) ∈ lw_tbl := lw_at lw_m2 136 rfl
theorem q553 : (Jvm.Cond.instanceMethod ({ cls := "BreathTown", name := "put", desc := "(I)V" } : Jvm.MethodName)) ∈ lw_all := lw_g (lw_at lw_m2 137 rfl) rfl
theorem q554 : (Jvm.Cond.code ({ cls := "BreathTown", name := "put", desc := "(I)V" } : Jvm.MethodName) prog_1_method_9_code (3 : Nat) (Option.none : Option Jvm.ClassFile.FieldType)) ∈ lw_all := lw_g (lw_at lw_m2 138 rfl) rfl
theorem q556 : (Jvm.Cond.instanceMethod ({ cls := "BreathTown", name := "end", desc := "(I)Z" } : Jvm.MethodName)) ∈ lw_all := lw_g (lw_at lw_m2 140 rfl) rfl
theorem q557 : (Jvm.Cond.selects "BreathTown" ({ cls := "BreathTown", name := "end", desc := "(I)Z" } : Jvm.MethodName) ({ cls := "BreathTown", name := "end", desc := "(I)Z" } : Jvm.MethodName)) ∈ lw_all := lw_g (lw_at lw_m2 141 rfl) rfl
theorem q558 : (Jvm.Cond.code ({ cls := "BreathTown", name := "end", desc := "(I)Z" } : Jvm.MethodName) prog_1_method_11_code (2 : Nat) (Option.some Jvm.ClassFile.FieldType.boolean)) ∈ lw_all := lw_g (lw_at lw_m2 142 rfl) rfl
theorem q560 : (Jvm.Cond.instanceMethod ({ cls := "BreathTown", name := "town", desc := "()I" } : Jvm.MethodName)) ∈ lw_all := lw_g (lw_at lw_m2 144 rfl) rfl
theorem q561 : (Jvm.Cond.selects "BreathTown" ({ cls := "BreathTown", name := "town", desc := "()I" } : Jvm.MethodName) ({ cls := "BreathTown", name := "town", desc := "()I" } : Jvm.MethodName)) ∈ lw_all := lw_g (lw_at lw_m2 145 rfl) rfl
theorem q562 : (Jvm.Cond.codeWith ({ cls := "BreathTown", name := "town", desc := "()I" } : Jvm.MethodName) prog_1_method_13_code (2 : Nat) (Option.some Jvm.ClassFile.FieldType.int) [((10 : Nat), (25 : Nat), (28 : Nat), (148 : Nat))]) ∈ lw_all := lw_g (lw_at lw_m2 146 rfl) rfl
theorem q563 : (Jvm.Cond.classLink "BreathTown" (148 : Nat) "BreathTown$Fault") ∈ lw_all := lw_g (lw_at lw_m2 147 rfl) rfl
theorem q564 : (Jvm.Cond.methodLink "BreathTown" (140 : Nat) ({ cls := "BreathTown", name := "taken", desc := "()I" } : Jvm.MethodName)) ∈ lw_all := lw_g (lw_at lw_m2 148 rfl) rfl
theorem q565 : (Jvm.Cond.privateMethod ({ cls := "BreathTown", name := "taken", desc := "()I" } : Jvm.MethodName)) ∈ lw_tbl := lw_at lw_m2 149 rfl
theorem q566 : (Jvm.Cond.instanceMethod ({ cls := "BreathTown", name := "taken", desc := "()I" } : Jvm.MethodName)) ∈ lw_all := lw_g (lw_at lw_m2 150 rfl) rfl
theorem q567 : (Jvm.Cond.code ({ cls := "BreathTown", name := "taken", desc := "()I" } : Jvm.MethodName) prog_1_method_12_code (2 : Nat) (Option.some Jvm.ClassFile.FieldType.int)) ∈ lw_all := lw_g (lw_at lw_m2 151 rfl) rfl
theorem q568 : (Jvm.Cond.methodLink "BreathTown" (144 : Nat) ({ cls := "BreathTown$Reader", name := "all", desc := "(I)LBreathTown$Town;" } : Jvm.MethodName)) ∈ lw_all := lw_g (lw_at lw_m2 152 rfl) rfl
theorem q595 : (Jvm.Cond.static ({ cls := "BreathTown", name := "isLetter", desc := "(I)Z" } : Jvm.MethodName)) ∈ lw_all := lw_g (lw_at lw_m2 179 rfl) rfl
theorem q596 : (Jvm.Cond.code ({ cls := "BreathTown", name := "isLetter", desc := "(I)Z" } : Jvm.MethodName) prog_1_method_4_code (1 : Nat) (Option.some Jvm.ClassFile.FieldType.boolean)) ∈ lw_all := lw_g (lw_at lw_m2 180 rfl) rfl
theorem q602 : (Jvm.Cond.static ({ cls := "BreathTown", name := "isDigit", desc := "(I)Z" } : Jvm.MethodName)) ∈ lw_all := lw_g (lw_at lw_m2 186 rfl) rfl
theorem q603 : (Jvm.Cond.code ({ cls := "BreathTown", name := "isDigit", desc := "(I)Z" } : Jvm.MethodName) prog_1_method_5_code (1 : Nat) (Option.some Jvm.ClassFile.FieldType.boolean)) ∈ lw_all := lw_g (lw_at lw_m2 187 rfl) rfl
theorem q771 : (Jvm.Cond.laysStatic "BreathTown" "OWN" "[Ljava/lang/String;") ∈ lw_tbl := lw_at lw_m3 115 rfl
theorem q773 : (Jvm.Cond.static ({ cls := "BreathTown", name := "find", desc := "(Ljava/lang/String;[Ljava/lang/String;)I" } : Jvm.MethodName)) ∈ lw_all := lw_g (lw_at lw_m3 117 rfl) rfl
theorem q774 : (Jvm.Cond.code ({ cls := "BreathTown", name := "find", desc := "(Ljava/lang/String;[Ljava/lang/String;)I" } : Jvm.MethodName) prog_1_method_6_code (3 : Nat) (Option.some Jvm.ClassFile.FieldType.int)) ∈ lw_all := lw_g (lw_at lw_m3 118 rfl) rfl
theorem q775 : (Jvm.Cond.methodLink "BreathTown" (16 : Nat) ({ cls := "java/lang/String", name := "equals", desc := "(Ljava/lang/Object;)Z" } : Jvm.MethodName)) ∈ lw_all := lw_g (lw_at lw_m3 119 rfl) rfl
theorem q857 : (Jvm.Cond.selects "BreathTown" ({ cls := "java/lang/Object", name := "getClass", desc := "()Ljava/lang/Class;" } : Jvm.MethodName) ({ cls := "java/lang/Object", name := "getClass", desc := "()Ljava/lang/Class;" } : Jvm.MethodName)) ∈ lw_all := lw_g (lw_at lw_m3 201 rfl) rfl
theorem q922 : (Jvm.Cond.static ({ cls := "BreathTown", name := "is", desc := "(III)Z" } : Jvm.MethodName)) ∈ lw_all := lw_g (lw_at lw_m4 26 rfl) rfl
theorem q923 : (Jvm.Cond.code ({ cls := "BreathTown", name := "is", desc := "(III)Z" } : Jvm.MethodName) prog_1_method_1_code (3 : Nat) (Option.some Jvm.ClassFile.FieldType.boolean)) ∈ lw_all := lw_g (lw_at lw_m4 27 rfl) rfl
theorem q1021 : (Jvm.Cond.laysStatic "BreathTown" "ASKED" "[Ljava/lang/String;") ∈ lw_tbl := lw_at lw_m4 125 rfl
theorem q1033 : (Jvm.Cond.laysStatic "BreathTown" "LOOKED" "[Ljava/lang/String;") ∈ lw_tbl := lw_at lw_m4 137 rfl
theorem q1126 : (Jvm.Cond.fieldLinkNest "BreathTown" (277 : Nat) "BreathTown$Street" "from" "I" "BreathTown") ∈ lw_tbl := lw_at lw_m4 230 rfl
theorem q1128 : (Jvm.Cond.fieldLinkNest "BreathTown" (280 : Nat) "BreathTown$Street" "to" "I" "BreathTown") ∈ lw_tbl := lw_at lw_m4 232 rfl
theorem q1130 : (Jvm.Cond.fieldLinkNest "BreathTown" (238 : Nat) "BreathTown$Street" "takes" "I" "BreathTown") ∈ lw_tbl := lw_at lw_m4 234 rfl
theorem q1132 : (Jvm.Cond.fieldLinkNest "BreathTown" (200 : Nat) "BreathTown$Street" "round" "I" "BreathTown") ∈ lw_tbl := lw_at lw_m4 236 rfl
theorem q1136 : (Jvm.Cond.fieldLinkNest "BreathTown" (215 : Nat) "BreathTown$Street" "sum" "LBreathTown$Value;" "BreathTown") ∈ lw_tbl := lw_at lw_m5 0 rfl
theorem q1160 : (Jvm.Cond.fieldLinkNest "BreathTown" (290 : Nat) "BreathTown$Walker" "broad" "I" "BreathTown") ∈ lw_tbl := lw_at lw_m5 24 rfl
theorem q1163 : (Jvm.Cond.fieldLinkNest "BreathTown" (435 : Nat) "BreathTown$Walker" "at" "I" "BreathTown") ∈ lw_tbl := lw_at lw_m5 27 rfl
theorem q1166 : (Jvm.Cond.fieldLinkNest "BreathTown" (437 : Nat) "BreathTown$Walker" "to" "I" "BreathTown") ∈ lw_tbl := lw_at lw_m5 30 rfl
theorem q1175 : (Jvm.Cond.methodLink "BreathTown" (156 : Nat) ({ cls := "BreathTown$State", name := "begins", desc := "()V" } : Jvm.MethodName)) ∈ lw_all := lw_g (lw_at lw_m5 39 rfl) rfl
theorem q1180 : (Jvm.Cond.privateMethod ({ cls := "BreathTown", name := "streetMany", desc := "()I" } : Jvm.MethodName)) ∈ lw_tbl := lw_at lw_m5 44 rfl
theorem q1181 : (Jvm.Cond.instanceMethod ({ cls := "BreathTown", name := "streetMany", desc := "()I" } : Jvm.MethodName)) ∈ lw_all := lw_g (lw_at lw_m5 45 rfl) rfl
theorem q1182 : (Jvm.Cond.code ({ cls := "BreathTown", name := "streetMany", desc := "()I" } : Jvm.MethodName) prog_1_method_16_code (1 : Nat) (Option.some Jvm.ClassFile.FieldType.int)) ∈ lw_all := lw_g (lw_at lw_m5 46 rfl) rfl
theorem q1183 : (Jvm.Cond.interfaceEntry "BreathTown" (172 : Nat)) ∈ lw_tbl := lw_at lw_m5 47 rfl
theorem q1184 : (Jvm.Cond.methodLink "BreathTown" (172 : Nat) ({ cls := "java/util/List", name := "size", desc := "()I" } : Jvm.MethodName)) ∈ lw_all := lw_g (lw_at lw_m5 48 rfl) rfl
theorem q1193 : (Jvm.Cond.privateMethod ({ cls := "BreathTown", name := "walkerMany", desc := "()I" } : Jvm.MethodName)) ∈ lw_tbl := lw_at lw_m5 57 rfl
theorem q1194 : (Jvm.Cond.instanceMethod ({ cls := "BreathTown", name := "walkerMany", desc := "()I" } : Jvm.MethodName)) ∈ lw_all := lw_g (lw_at lw_m5 58 rfl) rfl
theorem q1195 : (Jvm.Cond.code ({ cls := "BreathTown", name := "walkerMany", desc := "()I" } : Jvm.MethodName) prog_1_method_17_code (1 : Nat) (Option.some Jvm.ClassFile.FieldType.int)) ∈ lw_all := lw_g (lw_at lw_m5 59 rfl) rfl
theorem q1202 : (Jvm.Cond.instanceMethod ({ cls := "BreathTown", name := "fault", desc := "(I)I" } : Jvm.MethodName)) ∈ lw_all := lw_g (lw_at lw_m5 66 rfl) rfl
theorem q1203 : (Jvm.Cond.selects "BreathTown" ({ cls := "BreathTown", name := "fault", desc := "(I)I" } : Jvm.MethodName) ({ cls := "BreathTown", name := "fault", desc := "(I)I" } : Jvm.MethodName)) ∈ lw_all := lw_g (lw_at lw_m5 67 rfl) rfl
theorem q1204 : (Jvm.Cond.code ({ cls := "BreathTown", name := "fault", desc := "(I)I" } : Jvm.MethodName) prog_1_method_14_code (2 : Nat) (Option.some Jvm.ClassFile.FieldType.int)) ∈ lw_all := lw_g (lw_at lw_m5 68 rfl) rfl
theorem q1206 : (Jvm.Cond.instanceMethod ({ cls := "BreathTown", name := "width", desc := "(II)I" } : Jvm.MethodName)) ∈ lw_all := lw_g (lw_at lw_m5 70 rfl) rfl
theorem q1207 : (Jvm.Cond.selects "BreathTown" ({ cls := "BreathTown", name := "width", desc := "(II)I" } : Jvm.MethodName) ({ cls := "BreathTown", name := "width", desc := "(II)I" } : Jvm.MethodName)) ∈ lw_all := lw_g (lw_at lw_m5 71 rfl) rfl
theorem q1208 : (Jvm.Cond.code ({ cls := "BreathTown", name := "width", desc := "(II)I" } : Jvm.MethodName) prog_1_method_27_code (3 : Nat) (Option.some Jvm.ClassFile.FieldType.int)) ∈ lw_all := lw_g (lw_at lw_m5 72 rfl) rfl
theorem q1209 : (Jvm.Cond.methodLink "BreathTown" (244 : Nat) ({ cls := "BreathTown", name := "isStreet", desc := "(I)Z" } : Jvm.MethodName)) ∈ lw_all := lw_g (lw_at lw_m5 73 rfl) rfl
theorem q1210 : (Jvm.Cond.privateMethod ({ cls := "BreathTown", name := "isStreet", desc := "(I)Z" } : Jvm.MethodName)) ∈ lw_tbl := lw_at lw_m5 74 rfl
theorem q1211 : (Jvm.Cond.instanceMethod ({ cls := "BreathTown", name := "isStreet", desc := "(I)Z" } : Jvm.MethodName)) ∈ lw_all := lw_g (lw_at lw_m5 75 rfl) rfl
theorem q1212 : (Jvm.Cond.code ({ cls := "BreathTown", name := "isStreet", desc := "(I)Z" } : Jvm.MethodName) prog_1_method_19_code (2 : Nat) (Option.some Jvm.ClassFile.FieldType.boolean)) ∈ lw_all := lw_g (lw_at lw_m5 76 rfl) rfl
theorem q1213 : (Jvm.Cond.methodLink "BreathTown" (186 : Nat) ({ cls := "BreathTown", name := "streetMany", desc := "()I" } : Jvm.MethodName)) ∈ lw_all := lw_g (lw_at lw_m5 77 rfl) rfl
theorem q1214 : (Jvm.Cond.constant "BreathTown" (248 : Nat) (99999 : Int32)) ∈ lw_all := lw_g (lw_at lw_m5 78 rfl) rfl
theorem q1215 : (Jvm.Cond.methodLink "BreathTown" (192 : Nat) ({ cls := "BreathTown", name := "is", desc := "(III)Z" } : Jvm.MethodName)) ∈ lw_all := lw_g (lw_at lw_m5 79 rfl) rfl
theorem q1216 : (Jvm.Cond.methodLink "BreathTown" (231 : Nat) ({ cls := "BreathTown", name := "widthIn", desc := "(II)I" } : Jvm.MethodName)) ∈ lw_all := lw_g (lw_at lw_m5 80 rfl) rfl
theorem q1217 : (Jvm.Cond.privateMethod ({ cls := "BreathTown", name := "widthIn", desc := "(II)I" } : Jvm.MethodName)) ∈ lw_tbl := lw_at lw_m5 81 rfl
theorem q1218 : (Jvm.Cond.instanceMethod ({ cls := "BreathTown", name := "widthIn", desc := "(II)I" } : Jvm.MethodName)) ∈ lw_all := lw_g (lw_at lw_m5 82 rfl) rfl
theorem q1219 : (Jvm.Cond.code ({ cls := "BreathTown", name := "widthIn", desc := "(II)I" } : Jvm.MethodName) prog_1_method_24_code (3 : Nat) (Option.some Jvm.ClassFile.FieldType.int)) ∈ lw_all := lw_g (lw_at lw_m5 83 rfl) rfl
theorem q1220 : (Jvm.Cond.methodLink "BreathTown" (228 : Nat) ({ cls := "BreathTown", name := "widthBy", desc := "(III)I" } : Jvm.MethodName)) ∈ lw_all := lw_g (lw_at lw_m5 84 rfl) rfl
theorem q1221 : (Jvm.Cond.privateMethod ({ cls := "BreathTown", name := "widthBy", desc := "(III)I" } : Jvm.MethodName)) ∈ lw_tbl := lw_at lw_m5 85 rfl
theorem q1222 : (Jvm.Cond.instanceMethod ({ cls := "BreathTown", name := "widthBy", desc := "(III)I" } : Jvm.MethodName)) ∈ lw_all := lw_g (lw_at lw_m5 86 rfl) rfl
theorem q1223 : (Jvm.Cond.code ({ cls := "BreathTown", name := "widthBy", desc := "(III)I" } : Jvm.MethodName) prog_1_method_23_code (4 : Nat) (Option.some Jvm.ClassFile.FieldType.int)) ∈ lw_all := lw_g (lw_at lw_m5 87 rfl) rfl
theorem q1224 : (Jvm.Cond.methodLink "BreathTown" (209 : Nat) ({ cls := "BreathTown", name := "tide", desc := "(III)I" } : Jvm.MethodName)) ∈ lw_all := lw_g (lw_at lw_m5 88 rfl) rfl
theorem q1225 : (Jvm.Cond.privateMethod ({ cls := "BreathTown", name := "tide", desc := "(III)I" } : Jvm.MethodName)) ∈ lw_tbl := lw_at lw_m5 89 rfl
theorem q1226 : (Jvm.Cond.instanceMethod ({ cls := "BreathTown", name := "tide", desc := "(III)I" } : Jvm.MethodName)) ∈ lw_all := lw_g (lw_at lw_m5 90 rfl) rfl
theorem q1227 : (Jvm.Cond.code ({ cls := "BreathTown", name := "tide", desc := "(III)I" } : Jvm.MethodName) prog_1_method_22_code (4 : Nat) (Option.some Jvm.ClassFile.FieldType.int)) ∈ lw_all := lw_g (lw_at lw_m5 91 rfl) rfl
theorem q1228 : (Jvm.Cond.methodLink "BreathTown" (196 : Nat) ({ cls := "BreathTown$Town", name := "street", desc := "(I)LBreathTown$Street;" } : Jvm.MethodName)) ∈ lw_all := lw_g (lw_at lw_m5 92 rfl) rfl
theorem q1229 : (Jvm.Cond.constantLong "BreathTown" (213 : Nat) (99 : Int64)) ∈ lw_all := lw_g (lw_at lw_m5 93 rfl) rfl
theorem q1230 : (Jvm.Cond.methodLink "BreathTown" (219 : Nat) ({ cls := "BreathTown$Value", name := "at", desc := "(LBreathTown$Moment;)J" } : Jvm.MethodName)) ∈ lw_all := lw_g (lw_at lw_m5 94 rfl) rfl
theorem q1237 : (Jvm.Cond.static ({ cls := "BreathTown", name := "held", desc := "(J)J" } : Jvm.MethodName)) ∈ lw_all := lw_g (lw_at lw_m5 101 rfl) rfl
theorem q1238 : (Jvm.Cond.code ({ cls := "BreathTown", name := "held", desc := "(J)J" } : Jvm.MethodName) prog_1_method_3_code (2 : Nat) (Option.some Jvm.ClassFile.FieldType.long)) ∈ lw_all := lw_g (lw_at lw_m5 102 rfl) rfl
theorem q1239 : (Jvm.Cond.constantLong "BreathTown" (3 : Nat) (-1000000 : Int64)) ∈ lw_all := lw_g (lw_at lw_m5 103 rfl) rfl
theorem q1240 : (Jvm.Cond.constantLong "BreathTown" (5 : Nat) (1000000 : Int64)) ∈ lw_all := lw_g (lw_at lw_m5 104 rfl) rfl
theorem q1241 : (Jvm.Cond.methodLink "BreathTown" (7 : Nat) ({ cls := "java/lang/Math", name := "min", desc := "(JJ)J" } : Jvm.MethodName)) ∈ lw_all := lw_g (lw_at lw_m5 105 rfl) rfl
theorem q1244 : (Jvm.Cond.methodLink "BreathTown" (13 : Nat) ({ cls := "java/lang/Math", name := "max", desc := "(JJ)J" } : Jvm.MethodName)) ∈ lw_all := lw_g (lw_at lw_m5 108 rfl) rfl
theorem q1263 : (Jvm.Cond.privateMethod ({ cls := "BreathTown", name := "looked", desc := "(IJ)J" } : Jvm.MethodName)) ∈ lw_tbl := lw_at lw_m5 127 rfl
theorem q1264 : (Jvm.Cond.instanceMethod ({ cls := "BreathTown", name := "looked", desc := "(IJ)J" } : Jvm.MethodName)) ∈ lw_all := lw_g (lw_at lw_m5 128 rfl) rfl
theorem q1265 : (Jvm.Cond.code ({ cls := "BreathTown", name := "looked", desc := "(IJ)J" } : Jvm.MethodName) prog_1_method_73_code (6 : Nat) (Option.some Jvm.ClassFile.FieldType.long)) ∈ lw_all := lw_g (lw_at lw_m5 129 rfl) rfl
theorem q1266 : (Jvm.Cond.methodLink "BreathTown" (189 : Nat) ({ cls := "BreathTown", name := "walkerMany", desc := "()I" } : Jvm.MethodName)) ∈ lw_all := lw_g (lw_at lw_m5 130 rfl) rfl
theorem q1267 : (Jvm.Cond.methodLink "BreathTown" (286 : Nat) ({ cls := "BreathTown$Town", name := "walker", desc := "(I)LBreathTown$Walker;" } : Jvm.MethodName)) ∈ lw_all := lw_g (lw_at lw_m5 131 rfl) rfl
theorem q1268 : (Jvm.Cond.methodLink "BreathTown" (252 : Nat) ({ cls := "BreathTown", name := "canPass", desc := "(III)Z" } : Jvm.MethodName)) ∈ lw_all := lw_g (lw_at lw_m5 132 rfl) rfl
theorem q1269 : (Jvm.Cond.privateMethod ({ cls := "BreathTown", name := "canPass", desc := "(III)Z" } : Jvm.MethodName)) ∈ lw_tbl := lw_at lw_m5 133 rfl
theorem q1270 : (Jvm.Cond.instanceMethod ({ cls := "BreathTown", name := "canPass", desc := "(III)Z" } : Jvm.MethodName)) ∈ lw_all := lw_g (lw_at lw_m5 134 rfl) rfl
theorem q1271 : (Jvm.Cond.code ({ cls := "BreathTown", name := "canPass", desc := "(III)Z" } : Jvm.MethodName) prog_1_method_26_code (5 : Nat) (Option.some Jvm.ClassFile.FieldType.boolean)) ∈ lw_all := lw_g (lw_at lw_m5 135 rfl) rfl
theorem q1272 : (Jvm.Cond.methodLink "BreathTown" (241 : Nat) ({ cls := "BreathTown", name := "left", desc := "(II)I" } : Jvm.MethodName)) ∈ lw_all := lw_g (lw_at lw_m5 136 rfl) rfl
theorem q1273 : (Jvm.Cond.privateMethod ({ cls := "BreathTown", name := "left", desc := "(II)I" } : Jvm.MethodName)) ∈ lw_tbl := lw_at lw_m5 137 rfl
theorem q1274 : (Jvm.Cond.instanceMethod ({ cls := "BreathTown", name := "left", desc := "(II)I" } : Jvm.MethodName)) ∈ lw_all := lw_g (lw_at lw_m5 138 rfl) rfl
theorem q1275 : (Jvm.Cond.code ({ cls := "BreathTown", name := "left", desc := "(II)I" } : Jvm.MethodName) prog_1_method_25_code (6 : Nat) (Option.some Jvm.ClassFile.FieldType.int)) ∈ lw_all := lw_g (lw_at lw_m5 139 rfl) rfl
theorem q1300 : (Jvm.Cond.instanceMethod ({ cls := "BreathTown", name := "passes", desc := "(III)I" } : Jvm.MethodName)) ∈ lw_all := lw_g (lw_at lw_m5 164 rfl) rfl
theorem q1301 : (Jvm.Cond.selects "BreathTown" ({ cls := "BreathTown", name := "passes", desc := "(III)I" } : Jvm.MethodName) ({ cls := "BreathTown", name := "passes", desc := "(III)I" } : Jvm.MethodName)) ∈ lw_all := lw_g (lw_at lw_m5 165 rfl) rfl
theorem q1302 : (Jvm.Cond.code ({ cls := "BreathTown", name := "passes", desc := "(III)I" } : Jvm.MethodName) prog_1_method_28_code (4 : Nat) (Option.some Jvm.ClassFile.FieldType.int)) ∈ lw_all := lw_g (lw_at lw_m5 166 rfl) rfl
theorem q1303 : (Jvm.Cond.methodLink "BreathTown" (249 : Nat) ({ cls := "BreathTown", name := "isBroad", desc := "(I)Z" } : Jvm.MethodName)) ∈ lw_all := lw_g (lw_at lw_m5 167 rfl) rfl
theorem q1304 : (Jvm.Cond.static ({ cls := "BreathTown", name := "isBroad", desc := "(I)Z" } : Jvm.MethodName)) ∈ lw_all := lw_g (lw_at lw_m5 168 rfl) rfl
theorem q1305 : (Jvm.Cond.code ({ cls := "BreathTown", name := "isBroad", desc := "(I)Z" } : Jvm.MethodName) prog_1_method_21_code (1 : Nat) (Option.some Jvm.ClassFile.FieldType.boolean)) ∈ lw_all := lw_g (lw_at lw_m5 169 rfl) rfl
theorem q1307 : (Jvm.Cond.instanceMethod ({ cls := "BreathTown", name := "next", desc := "(III)I" } : Jvm.MethodName)) ∈ lw_all := lw_g (lw_at lw_m5 171 rfl) rfl
theorem q1308 : (Jvm.Cond.selects "BreathTown" ({ cls := "BreathTown", name := "next", desc := "(III)I" } : Jvm.MethodName) ({ cls := "BreathTown", name := "next", desc := "(III)I" } : Jvm.MethodName)) ∈ lw_all := lw_g (lw_at lw_m5 172 rfl) rfl
theorem q1309 : (Jvm.Cond.code ({ cls := "BreathTown", name := "next", desc := "(III)I" } : Jvm.MethodName) prog_1_method_29_code (5 : Nat) (Option.some Jvm.ClassFile.FieldType.int)) ∈ lw_all := lw_g (lw_at lw_m5 173 rfl) rfl
theorem q1311 : (Jvm.Cond.instanceMethod ({ cls := "BreathTown", name := "often", desc := "(IIII)I" } : Jvm.MethodName)) ∈ lw_all := lw_g (lw_at lw_m5 175 rfl) rfl
theorem q1312 : (Jvm.Cond.selects "BreathTown" ({ cls := "BreathTown", name := "often", desc := "(IIII)I" } : Jvm.MethodName) ({ cls := "BreathTown", name := "often", desc := "(IIII)I" } : Jvm.MethodName)) ∈ lw_all := lw_g (lw_at lw_m5 176 rfl) rfl
theorem q1313 : (Jvm.Cond.code ({ cls := "BreathTown", name := "often", desc := "(IIII)I" } : Jvm.MethodName) prog_1_method_30_code (7 : Nat) (Option.some Jvm.ClassFile.FieldType.int)) ∈ lw_all := lw_g (lw_at lw_m5 177 rfl) rfl
theorem q1315 : (Jvm.Cond.instanceMethod ({ cls := "BreathTown", name := "wide", desc := "(II)I" } : Jvm.MethodName)) ∈ lw_all := lw_g (lw_at lw_m5 179 rfl) rfl
theorem q1316 : (Jvm.Cond.selects "BreathTown" ({ cls := "BreathTown", name := "wide", desc := "(II)I" } : Jvm.MethodName) ({ cls := "BreathTown", name := "wide", desc := "(II)I" } : Jvm.MethodName)) ∈ lw_all := lw_g (lw_at lw_m5 180 rfl) rfl
theorem q1317 : (Jvm.Cond.code ({ cls := "BreathTown", name := "wide", desc := "(II)I" } : Jvm.MethodName) prog_1_method_32_code (4 : Nat) (Option.some Jvm.ClassFile.FieldType.int)) ∈ lw_all := lw_g (lw_at lw_m5 181 rfl) rfl
theorem q1318 : (Jvm.Cond.methodLink "BreathTown" (262 : Nat) ({ cls := "BreathTown", name := "areWide", desc := "(III)Z" } : Jvm.MethodName)) ∈ lw_all := lw_g (lw_at lw_m5 182 rfl) rfl
theorem q1319 : (Jvm.Cond.privateMethod ({ cls := "BreathTown", name := "areWide", desc := "(III)Z" } : Jvm.MethodName)) ∈ lw_tbl := lw_at lw_m5 183 rfl
theorem q1320 : (Jvm.Cond.instanceMethod ({ cls := "BreathTown", name := "areWide", desc := "(III)Z" } : Jvm.MethodName)) ∈ lw_all := lw_g (lw_at lw_m5 184 rfl) rfl
theorem q1321 : (Jvm.Cond.code ({ cls := "BreathTown", name := "areWide", desc := "(III)Z" } : Jvm.MethodName) prog_1_method_31_code (5 : Nat) (Option.some Jvm.ClassFile.FieldType.boolean)) ∈ lw_all := lw_g (lw_at lw_m5 185 rfl) rfl
theorem q1322 : (Jvm.Cond.methodLink "BreathTown" (255 : Nat) ({ cls := "BreathTown", name := "has", desc := "(II)Z" } : Jvm.MethodName)) ∈ lw_all := lw_g (lw_at lw_m5 186 rfl) rfl
theorem q1323 : (Jvm.Cond.static ({ cls := "BreathTown", name := "has", desc := "(II)Z" } : Jvm.MethodName)) ∈ lw_all := lw_g (lw_at lw_m5 187 rfl) rfl
theorem q1324 : (Jvm.Cond.code ({ cls := "BreathTown", name := "has", desc := "(II)Z" } : Jvm.MethodName) prog_1_method_2_code (2 : Nat) (Option.some Jvm.ClassFile.FieldType.boolean)) ∈ lw_all := lw_g (lw_at lw_m5 188 rfl) rfl
theorem q1326 : (Jvm.Cond.instanceMethod ({ cls := "BreathTown", name := "has", desc := "(I)I" } : Jvm.MethodName)) ∈ lw_all := lw_g (lw_at lw_m5 190 rfl) rfl
theorem q1327 : (Jvm.Cond.selects "BreathTown" ({ cls := "BreathTown", name := "has", desc := "(I)I" } : Jvm.MethodName) ({ cls := "BreathTown", name := "has", desc := "(I)I" } : Jvm.MethodName)) ∈ lw_all := lw_g (lw_at lw_m5 191 rfl) rfl
theorem q1328 : (Jvm.Cond.code ({ cls := "BreathTown", name := "has", desc := "(I)I" } : Jvm.MethodName) prog_1_method_33_code (4 : Nat) (Option.some Jvm.ClassFile.FieldType.int)) ∈ lw_all := lw_g (lw_at lw_m5 192 rfl) rfl
theorem q1329 : (Jvm.Cond.methodLink "BreathTown" (183 : Nat) ({ cls := "BreathTown", name := "placeMany", desc := "()I" } : Jvm.MethodName)) ∈ lw_all := lw_g (lw_at lw_m5 193 rfl) rfl
theorem q1330 : (Jvm.Cond.privateMethod ({ cls := "BreathTown", name := "placeMany", desc := "()I" } : Jvm.MethodName)) ∈ lw_tbl := lw_at lw_m5 194 rfl
theorem q1331 : (Jvm.Cond.instanceMethod ({ cls := "BreathTown", name := "placeMany", desc := "()I" } : Jvm.MethodName)) ∈ lw_all := lw_g (lw_at lw_m5 195 rfl) rfl
theorem q1332 : (Jvm.Cond.code ({ cls := "BreathTown", name := "placeMany", desc := "()I" } : Jvm.MethodName) prog_1_method_15_code (1 : Nat) (Option.some Jvm.ClassFile.FieldType.int)) ∈ lw_all := lw_g (lw_at lw_m5 196 rfl) rfl
theorem q1334 : (Jvm.Cond.instanceMethod ({ cls := "BreathTown", name := "letter", desc := "(III)I" } : Jvm.MethodName)) ∈ lw_all := lw_g (lw_at lw_m5 198 rfl) rfl
theorem q1335 : (Jvm.Cond.selects "BreathTown" ({ cls := "BreathTown", name := "letter", desc := "(III)I" } : Jvm.MethodName) ({ cls := "BreathTown", name := "letter", desc := "(III)I" } : Jvm.MethodName)) ∈ lw_all := lw_g (lw_at lw_m5 199 rfl) rfl
theorem q1336 : (Jvm.Cond.code ({ cls := "BreathTown", name := "letter", desc := "(III)I" } : Jvm.MethodName) prog_1_method_34_code (5 : Nat) (Option.some Jvm.ClassFile.FieldType.int)) ∈ lw_all := lw_g (lw_at lw_m5 200 rfl) rfl
theorem q1337 : (Jvm.Cond.interfaceEntry "BreathTown" (268 : Nat)) ∈ lw_tbl := lw_at lw_m5 201 rfl
theorem q1338 : (Jvm.Cond.methodLink "BreathTown" (268 : Nat) ({ cls := "java/util/List", name := "get", desc := "(I)Ljava/lang/Object;" } : Jvm.MethodName)) ∈ lw_all := lw_g (lw_at lw_m5 202 rfl) rfl
theorem q1339 : (Jvm.Cond.classLink "BreathTown" (272 : Nat) "BreathTown$Named") ∈ lw_all := lw_g (lw_at lw_m5 203 rfl) rfl
theorem q1340 : (Jvm.Cond.methodLink "BreathTown" (274 : Nat) ({ cls := "BreathTown$Named", name := "letter", desc := "(I)I" } : Jvm.MethodName)) ∈ lw_all := lw_g (lw_at lw_m5 204 rfl) rfl
theorem q1360 : (Jvm.Cond.instanceMethod ({ cls := "BreathTown", name := "street", desc := "(II)I" } : Jvm.MethodName)) ∈ lw_all := lw_g (lw_at lw_m5 224 rfl) rfl
theorem q1361 : (Jvm.Cond.selects "BreathTown" ({ cls := "BreathTown", name := "street", desc := "(II)I" } : Jvm.MethodName) ({ cls := "BreathTown", name := "street", desc := "(II)I" } : Jvm.MethodName)) ∈ lw_all := lw_g (lw_at lw_m5 225 rfl) rfl
theorem q1362 : (Jvm.Cond.code ({ cls := "BreathTown", name := "street", desc := "(II)I" } : Jvm.MethodName) prog_1_method_35_code (4 : Nat) (Option.some Jvm.ClassFile.FieldType.int)) ∈ lw_all := lw_g (lw_at lw_m5 226 rfl) rfl
theorem q1364 : (Jvm.Cond.instanceMethod ({ cls := "BreathTown", name := "walker", desc := "(II)I" } : Jvm.MethodName)) ∈ lw_all := lw_g (lw_at lw_m5 228 rfl) rfl
theorem q1365 : (Jvm.Cond.selects "BreathTown" ({ cls := "BreathTown", name := "walker", desc := "(II)I" } : Jvm.MethodName) ({ cls := "BreathTown", name := "walker", desc := "(II)I" } : Jvm.MethodName)) ∈ lw_all := lw_g (lw_at lw_m5 229 rfl) rfl
theorem q1366 : (Jvm.Cond.code ({ cls := "BreathTown", name := "walker", desc := "(II)I" } : Jvm.MethodName) prog_1_method_36_code (3 : Nat) (Option.some Jvm.ClassFile.FieldType.int)) ∈ lw_all := lw_g (lw_at lw_m5 230 rfl) rfl
theorem q1367 : (Jvm.Cond.methodLink "BreathTown" (283 : Nat) ({ cls := "BreathTown", name := "isWalker", desc := "(I)Z" } : Jvm.MethodName)) ∈ lw_all := lw_g (lw_at lw_m5 231 rfl) rfl
theorem q1368 : (Jvm.Cond.privateMethod ({ cls := "BreathTown", name := "isWalker", desc := "(I)Z" } : Jvm.MethodName)) ∈ lw_tbl := lw_at lw_m5 232 rfl
theorem q1369 : (Jvm.Cond.instanceMethod ({ cls := "BreathTown", name := "isWalker", desc := "(I)Z" } : Jvm.MethodName)) ∈ lw_all := lw_g (lw_at lw_m5 233 rfl) rfl
theorem q1370 : (Jvm.Cond.code ({ cls := "BreathTown", name := "isWalker", desc := "(I)Z" } : Jvm.MethodName) prog_1_method_20_code (2 : Nat) (Option.some Jvm.ClassFile.FieldType.boolean)) ∈ lw_all := lw_g (lw_at lw_m5 234 rfl) rfl
theorem q1372 : (Jvm.Cond.instanceMethod ({ cls := "BreathTown", name := "way", desc := "(II)I" } : Jvm.MethodName)) ∈ lw_all := lw_g (lw_at lw_m5 236 rfl) rfl
theorem q1373 : (Jvm.Cond.selects "BreathTown" ({ cls := "BreathTown", name := "way", desc := "(II)I" } : Jvm.MethodName) ({ cls := "BreathTown", name := "way", desc := "(II)I" } : Jvm.MethodName)) ∈ lw_all := lw_g (lw_at lw_m5 237 rfl) rfl
theorem q1374 : (Jvm.Cond.code ({ cls := "BreathTown", name := "way", desc := "(II)I" } : Jvm.MethodName) prog_1_method_43_code (3 : Nat) (Option.some Jvm.ClassFile.FieldType.int)) ∈ lw_all := lw_g (lw_at lw_m5 238 rfl) rfl
theorem q1375 : (Jvm.Cond.methodLink "BreathTown" (329 : Nat) ({ cls := "BreathTown", name := "goes", desc := "(I)Z" } : Jvm.MethodName)) ∈ lw_all := lw_g (lw_at lw_m5 239 rfl) rfl
theorem q1376 : (Jvm.Cond.privateMethod ({ cls := "BreathTown", name := "goes", desc := "(I)Z" } : Jvm.MethodName)) ∈ lw_tbl := lw_at lw_m6 0 rfl
theorem q1377 : (Jvm.Cond.instanceMethod ({ cls := "BreathTown", name := "goes", desc := "(I)Z" } : Jvm.MethodName)) ∈ lw_all := lw_g (lw_at lw_m6 1 rfl) rfl
theorem q1378 : (Jvm.Cond.code ({ cls := "BreathTown", name := "goes", desc := "(I)Z" } : Jvm.MethodName) prog_1_method_42_code (2 : Nat) (Option.some Jvm.ClassFile.FieldType.boolean)) ∈ lw_all := lw_g (lw_at lw_m6 2 rfl) rfl
theorem q1379 : (Jvm.Cond.methodLink "BreathTown" (322 : Nat) ({ cls := "BreathTown", name := "start", desc := "(I)I" } : Jvm.MethodName)) ∈ lw_all := lw_g (lw_at lw_m6 3 rfl) rfl
theorem q1380 : (Jvm.Cond.privateMethod ({ cls := "BreathTown", name := "start", desc := "(I)I" } : Jvm.MethodName)) ∈ lw_tbl := lw_at lw_m6 4 rfl
theorem q1381 : (Jvm.Cond.instanceMethod ({ cls := "BreathTown", name := "start", desc := "(I)I" } : Jvm.MethodName)) ∈ lw_all := lw_g (lw_at lw_m6 5 rfl) rfl
theorem q1382 : (Jvm.Cond.code ({ cls := "BreathTown", name := "start", desc := "(I)I" } : Jvm.MethodName) prog_1_method_37_code (2 : Nat) (Option.some Jvm.ClassFile.FieldType.int)) ∈ lw_all := lw_g (lw_at lw_m6 6 rfl) rfl
theorem q1383 : (Jvm.Cond.methodLink "BreathTown" (299 : Nat) ({ cls := "java/lang/Math", name := "max", desc := "(II)I" } : Jvm.MethodName)) ∈ lw_all := lw_g (lw_at lw_m6 7 rfl) rfl
theorem q1384 : (Jvm.Cond.methodLink "BreathTown" (325 : Nat) ({ cls := "BreathTown", name := "goes", desc := "(IIII)Z" } : Jvm.MethodName)) ∈ lw_all := lw_g (lw_at lw_m6 8 rfl) rfl
theorem q1385 : (Jvm.Cond.privateMethod ({ cls := "BreathTown", name := "goes", desc := "(IIII)Z" } : Jvm.MethodName)) ∈ lw_tbl := lw_at lw_m6 9 rfl
theorem q1386 : (Jvm.Cond.instanceMethod ({ cls := "BreathTown", name := "goes", desc := "(IIII)Z" } : Jvm.MethodName)) ∈ lw_all := lw_g (lw_at lw_m6 10 rfl) rfl
theorem q1387 : (Jvm.Cond.code ({ cls := "BreathTown", name := "goes", desc := "(IIII)Z" } : Jvm.MethodName) prog_1_method_40_code (8 : Nat) (Option.some Jvm.ClassFile.FieldType.boolean)) ∈ lw_all := lw_g (lw_at lw_m6 11 rfl) rfl
theorem q1388 : (Jvm.Cond.methodLink "BreathTown" (312 : Nat) ({ cls := "BreathTown", name := "labels", desc := "(III)V" } : Jvm.MethodName)) ∈ lw_all := lw_g (lw_at lw_m6 12 rfl) rfl
theorem q1389 : (Jvm.Cond.privateMethod ({ cls := "BreathTown", name := "labels", desc := "(III)V" } : Jvm.MethodName)) ∈ lw_tbl := lw_at lw_m6 13 rfl
theorem q1390 : (Jvm.Cond.instanceMethod ({ cls := "BreathTown", name := "labels", desc := "(III)V" } : Jvm.MethodName)) ∈ lw_all := lw_g (lw_at lw_m6 14 rfl) rfl
theorem q1391 : (Jvm.Cond.code ({ cls := "BreathTown", name := "labels", desc := "(III)V" } : Jvm.MethodName) prog_1_method_39_code (9 : Nat) (Option.none : Option Jvm.ClassFile.FieldType)) ∈ lw_all := lw_g (lw_at lw_m6 15 rfl) rfl
theorem q1392 : (Jvm.Cond.constant "BreathTown" (304 : Nat) (100000000 : Int32)) ∈ lw_all := lw_g (lw_at lw_m6 16 rfl) rfl
theorem q1393 : (Jvm.Cond.methodLink "BreathTown" (305 : Nat) ({ cls := "BreathTown$Street", name := "other", desc := "(I)I" } : Jvm.MethodName)) ∈ lw_all := lw_g (lw_at lw_m6 17 rfl) rfl
theorem q1397 : (Jvm.Cond.methodLink "BreathTown" (308 : Nat) ({ cls := "BreathTown", name := "taken", desc := "(III)I" } : Jvm.MethodName)) ∈ lw_all := lw_g (lw_at lw_m6 21 rfl) rfl
theorem q1398 : (Jvm.Cond.privateMethod ({ cls := "BreathTown", name := "taken", desc := "(III)I" } : Jvm.MethodName)) ∈ lw_tbl := lw_at lw_m6 22 rfl
theorem q1399 : (Jvm.Cond.instanceMethod ({ cls := "BreathTown", name := "taken", desc := "(III)I" } : Jvm.MethodName)) ∈ lw_all := lw_g (lw_at lw_m6 23 rfl) rfl
theorem q1400 : (Jvm.Cond.code ({ cls := "BreathTown", name := "taken", desc := "(III)I" } : Jvm.MethodName) prog_1_method_38_code (5 : Nat) (Option.some Jvm.ClassFile.FieldType.int)) ∈ lw_all := lw_g (lw_at lw_m6 24 rfl) rfl
theorem q1401 : (Jvm.Cond.methodLink "BreathTown" (310 : Nat) ({ cls := "java/lang/Math", name := "min", desc := "(II)I" } : Jvm.MethodName)) ∈ lw_all := lw_g (lw_at lw_m6 25 rfl) rfl
theorem q1402 : (Jvm.Cond.methodLink "BreathTown" (319 : Nat) ({ cls := "BreathTown", name := "comesBy", desc := "(III)Z" } : Jvm.MethodName)) ∈ lw_all := lw_g (lw_at lw_m6 26 rfl) rfl
theorem q1403 : (Jvm.Cond.privateMethod ({ cls := "BreathTown", name := "comesBy", desc := "(III)Z" } : Jvm.MethodName)) ∈ lw_tbl := lw_at lw_m6 27 rfl
theorem q1404 : (Jvm.Cond.instanceMethod ({ cls := "BreathTown", name := "comesBy", desc := "(III)Z" } : Jvm.MethodName)) ∈ lw_all := lw_g (lw_at lw_m6 28 rfl) rfl
theorem q1405 : (Jvm.Cond.code ({ cls := "BreathTown", name := "comesBy", desc := "(III)Z" } : Jvm.MethodName) prog_1_method_41_code (6 : Nat) (Option.some Jvm.ClassFile.FieldType.boolean)) ∈ lw_all := lw_g (lw_at lw_m6 29 rfl) rfl
theorem q1407 : (Jvm.Cond.instanceMethod ({ cls := "BreathTown", name := "arrival", desc := "(II)I" } : Jvm.MethodName)) ∈ lw_all := lw_g (lw_at lw_m6 31 rfl) rfl
theorem q1408 : (Jvm.Cond.selects "BreathTown" ({ cls := "BreathTown", name := "arrival", desc := "(II)I" } : Jvm.MethodName) ({ cls := "BreathTown", name := "arrival", desc := "(II)I" } : Jvm.MethodName)) ∈ lw_all := lw_g (lw_at lw_m6 32 rfl) rfl
theorem q1409 : (Jvm.Cond.code ({ cls := "BreathTown", name := "arrival", desc := "(II)I" } : Jvm.MethodName) prog_1_method_44_code (3 : Nat) (Option.some Jvm.ClassFile.FieldType.int)) ∈ lw_all := lw_g (lw_at lw_m6 33 rfl) rfl
theorem q1410 : (Jvm.Cond.methodLink "BreathTown" (331 : Nat) ({ cls := "BreathTown", name := "isPlace", desc := "(I)Z" } : Jvm.MethodName)) ∈ lw_all := lw_g (lw_at lw_m6 34 rfl) rfl
theorem q1411 : (Jvm.Cond.privateMethod ({ cls := "BreathTown", name := "isPlace", desc := "(I)Z" } : Jvm.MethodName)) ∈ lw_tbl := lw_at lw_m6 35 rfl
theorem q1412 : (Jvm.Cond.instanceMethod ({ cls := "BreathTown", name := "isPlace", desc := "(I)Z" } : Jvm.MethodName)) ∈ lw_all := lw_g (lw_at lw_m6 36 rfl) rfl
theorem q1413 : (Jvm.Cond.code ({ cls := "BreathTown", name := "isPlace", desc := "(I)Z" } : Jvm.MethodName) prog_1_method_18_code (2 : Nat) (Option.some Jvm.ClassFile.FieldType.boolean)) ∈ lw_all := lw_g (lw_at lw_m6 37 rfl) rfl
theorem q1415 : (Jvm.Cond.instanceMethod ({ cls := "BreathTown", name := "stuck", desc := "(II)I" } : Jvm.MethodName)) ∈ lw_all := lw_g (lw_at lw_m6 39 rfl) rfl
theorem q1416 : (Jvm.Cond.selects "BreathTown" ({ cls := "BreathTown", name := "stuck", desc := "(II)I" } : Jvm.MethodName) ({ cls := "BreathTown", name := "stuck", desc := "(II)I" } : Jvm.MethodName)) ∈ lw_all := lw_g (lw_at lw_m6 40 rfl) rfl
theorem q1417 : (Jvm.Cond.code ({ cls := "BreathTown", name := "stuck", desc := "(II)I" } : Jvm.MethodName) prog_1_method_46_code (8 : Nat) (Option.some Jvm.ClassFile.FieldType.int)) ∈ lw_all := lw_g (lw_at lw_m6 41 rfl) rfl
theorem q1418 : (Jvm.Cond.methodLink "BreathTown" (334 : Nat) ({ cls := "BreathTown", name := "shortest", desc := "(I)V" } : Jvm.MethodName)) ∈ lw_all := lw_g (lw_at lw_m6 42 rfl) rfl
theorem q1419 : (Jvm.Cond.privateMethod ({ cls := "BreathTown", name := "shortest", desc := "(I)V" } : Jvm.MethodName)) ∈ lw_tbl := lw_at lw_m6 43 rfl
theorem q1420 : (Jvm.Cond.instanceMethod ({ cls := "BreathTown", name := "shortest", desc := "(I)V" } : Jvm.MethodName)) ∈ lw_all := lw_g (lw_at lw_m6 44 rfl) rfl
theorem q1421 : (Jvm.Cond.code ({ cls := "BreathTown", name := "shortest", desc := "(I)V" } : Jvm.MethodName) prog_1_method_45_code (5 : Nat) (Option.none : Option Jvm.ClassFile.FieldType)) ∈ lw_all := lw_g (lw_at lw_m6 45 rfl) rfl
theorem q1422 : (Jvm.Cond.methodLink "BreathTown" (337 : Nat) ({ cls := "BreathTown", name := "isOn", desc := "(II)Z" } : Jvm.MethodName)) ∈ lw_all := lw_g (lw_at lw_m6 46 rfl) rfl
theorem q1423 : (Jvm.Cond.privateMethod ({ cls := "BreathTown", name := "isOn", desc := "(II)Z" } : Jvm.MethodName)) ∈ lw_tbl := lw_at lw_m6 47 rfl
theorem q1424 : (Jvm.Cond.instanceMethod ({ cls := "BreathTown", name := "isOn", desc := "(II)Z" } : Jvm.MethodName)) ∈ lw_all := lw_g (lw_at lw_m6 48 rfl) rfl
theorem q1425 : (Jvm.Cond.code ({ cls := "BreathTown", name := "isOn", desc := "(II)Z" } : Jvm.MethodName) prog_1_method_47_code (4 : Nat) (Option.some Jvm.ClassFile.FieldType.boolean)) ∈ lw_all := lw_g (lw_at lw_m6 49 rfl) rfl
theorem q1426 : (Jvm.Cond.methodLink "BreathTown" (340 : Nat) ({ cls := "BreathTown", name := "narrowIn", desc := "(III)I" } : Jvm.MethodName)) ∈ lw_all := lw_g (lw_at lw_m6 50 rfl) rfl
theorem q1427 : (Jvm.Cond.privateMethod ({ cls := "BreathTown", name := "narrowIn", desc := "(III)I" } : Jvm.MethodName)) ∈ lw_tbl := lw_at lw_m6 51 rfl
theorem q1428 : (Jvm.Cond.instanceMethod ({ cls := "BreathTown", name := "narrowIn", desc := "(III)I" } : Jvm.MethodName)) ∈ lw_all := lw_g (lw_at lw_m6 52 rfl) rfl
theorem q1429 : (Jvm.Cond.code ({ cls := "BreathTown", name := "narrowIn", desc := "(III)I" } : Jvm.MethodName) prog_1_method_48_code (5 : Nat) (Option.some Jvm.ClassFile.FieldType.int)) ∈ lw_all := lw_g (lw_at lw_m6 53 rfl) rfl
theorem q1431 : (Jvm.Cond.instanceMethod ({ cls := "BreathTown", name := "needed", desc := "(I)I" } : Jvm.MethodName)) ∈ lw_all := lw_g (lw_at lw_m6 55 rfl) rfl
theorem q1432 : (Jvm.Cond.selects "BreathTown" ({ cls := "BreathTown", name := "needed", desc := "(I)I" } : Jvm.MethodName) ({ cls := "BreathTown", name := "needed", desc := "(I)I" } : Jvm.MethodName)) ∈ lw_all := lw_g (lw_at lw_m6 56 rfl) rfl
theorem q1433 : (Jvm.Cond.code ({ cls := "BreathTown", name := "needed", desc := "(I)I" } : Jvm.MethodName) prog_1_method_49_code (4 : Nat) (Option.some Jvm.ClassFile.FieldType.int)) ∈ lw_all := lw_g (lw_at lw_m6 57 rfl) rfl
theorem q1435 : (Jvm.Cond.instanceMethod ({ cls := "BreathTown", name := "parade", desc := "(II)I" } : Jvm.MethodName)) ∈ lw_all := lw_g (lw_at lw_m6 59 rfl) rfl
theorem q1436 : (Jvm.Cond.selects "BreathTown" ({ cls := "BreathTown", name := "parade", desc := "(II)I" } : Jvm.MethodName) ({ cls := "BreathTown", name := "parade", desc := "(II)I" } : Jvm.MethodName)) ∈ lw_all := lw_g (lw_at lw_m6 60 rfl) rfl
theorem q1437 : (Jvm.Cond.code ({ cls := "BreathTown", name := "parade", desc := "(II)I" } : Jvm.MethodName) prog_1_method_51_code (4 : Nat) (Option.some Jvm.ClassFile.FieldType.int)) ∈ lw_all := lw_g (lw_at lw_m6 61 rfl) rfl
theorem q1438 : (Jvm.Cond.methodLink "BreathTown" (343 : Nat) ({ cls := "BreathTown", name := "isThrough", desc := "(III)Z" } : Jvm.MethodName)) ∈ lw_all := lw_g (lw_at lw_m6 62 rfl) rfl
theorem q1439 : (Jvm.Cond.privateMethod ({ cls := "BreathTown", name := "isThrough", desc := "(III)Z" } : Jvm.MethodName)) ∈ lw_tbl := lw_at lw_m6 63 rfl
theorem q1440 : (Jvm.Cond.instanceMethod ({ cls := "BreathTown", name := "isThrough", desc := "(III)Z" } : Jvm.MethodName)) ∈ lw_all := lw_g (lw_at lw_m6 64 rfl) rfl
theorem q1441 : (Jvm.Cond.code ({ cls := "BreathTown", name := "isThrough", desc := "(III)Z" } : Jvm.MethodName) prog_1_method_50_code (8 : Nat) (Option.some Jvm.ClassFile.FieldType.boolean)) ∈ lw_all := lw_g (lw_at lw_m6 65 rfl) rfl
theorem q1443 : (Jvm.Cond.instanceMethod ({ cls := "BreathTown", name := "rows", desc := "(II)I" } : Jvm.MethodName)) ∈ lw_all := lw_g (lw_at lw_m6 67 rfl) rfl
theorem q1444 : (Jvm.Cond.selects "BreathTown" ({ cls := "BreathTown", name := "rows", desc := "(II)I" } : Jvm.MethodName) ({ cls := "BreathTown", name := "rows", desc := "(II)I" } : Jvm.MethodName)) ∈ lw_all := lw_g (lw_at lw_m6 68 rfl) rfl
theorem q1445 : (Jvm.Cond.code ({ cls := "BreathTown", name := "rows", desc := "(II)I" } : Jvm.MethodName) prog_1_method_54_code (3 : Nat) (Option.some Jvm.ClassFile.FieldType.int)) ∈ lw_all := lw_g (lw_at lw_m6 69 rfl) rfl
theorem q1446 : (Jvm.Cond.methodLink "BreathTown" (355 : Nat) ({ cls := "BreathTown", name := "orders", desc := "(III)V" } : Jvm.MethodName)) ∈ lw_all := lw_g (lw_at lw_m6 70 rfl) rfl
theorem q1447 : (Jvm.Cond.privateMethod ({ cls := "BreathTown", name := "orders", desc := "(III)V" } : Jvm.MethodName)) ∈ lw_tbl := lw_at lw_m6 71 rfl
theorem q1448 : (Jvm.Cond.instanceMethod ({ cls := "BreathTown", name := "orders", desc := "(III)V" } : Jvm.MethodName)) ∈ lw_all := lw_g (lw_at lw_m6 72 rfl) rfl
theorem q1449 : (Jvm.Cond.code ({ cls := "BreathTown", name := "orders", desc := "(III)V" } : Jvm.MethodName) prog_1_method_53_code (7 : Nat) (Option.none : Option Jvm.ClassFile.FieldType)) ∈ lw_all := lw_g (lw_at lw_m6 73 rfl) rfl
theorem q1450 : (Jvm.Cond.methodLink "BreathTown" (346 : Nat) ({ cls := "BreathTown", name := "walksAll", desc := "(I)Z" } : Jvm.MethodName)) ∈ lw_all := lw_g (lw_at lw_m6 74 rfl) rfl
theorem q1451 : (Jvm.Cond.privateMethod ({ cls := "BreathTown", name := "walksAll", desc := "(I)Z" } : Jvm.MethodName)) ∈ lw_tbl := lw_at lw_m6 75 rfl
theorem q1452 : (Jvm.Cond.instanceMethod ({ cls := "BreathTown", name := "walksAll", desc := "(I)Z" } : Jvm.MethodName)) ∈ lw_all := lw_g (lw_at lw_m6 76 rfl) rfl
theorem q1453 : (Jvm.Cond.code ({ cls := "BreathTown", name := "walksAll", desc := "(I)Z" } : Jvm.MethodName) prog_1_method_52_code (7 : Nat) (Option.some Jvm.ClassFile.FieldType.boolean)) ∈ lw_all := lw_g (lw_at lw_m6 77 rfl) rfl
theorem q1455 : (Jvm.Cond.instanceMethod ({ cls := "BreathTown", name := "doctors", desc := "(III)I" } : Jvm.MethodName)) ∈ lw_all := lw_g (lw_at lw_m6 79 rfl) rfl
theorem q1456 : (Jvm.Cond.selects "BreathTown" ({ cls := "BreathTown", name := "doctors", desc := "(III)I" } : Jvm.MethodName) ({ cls := "BreathTown", name := "doctors", desc := "(III)I" } : Jvm.MethodName)) ∈ lw_all := lw_g (lw_at lw_m6 80 rfl) rfl
theorem q1457 : (Jvm.Cond.code ({ cls := "BreathTown", name := "doctors", desc := "(III)I" } : Jvm.MethodName) prog_1_method_57_code (7 : Nat) (Option.some Jvm.ClassFile.FieldType.int)) ∈ lw_all := lw_g (lw_at lw_m6 81 rfl) rfl
theorem q1458 : (Jvm.Cond.methodLink "BreathTown" (361 : Nat) ({ cls := "BreathTown", name := "serving", desc := "(III)I" } : Jvm.MethodName)) ∈ lw_all := lw_g (lw_at lw_m6 82 rfl) rfl
theorem q1459 : (Jvm.Cond.privateMethod ({ cls := "BreathTown", name := "serving", desc := "(III)I" } : Jvm.MethodName)) ∈ lw_tbl := lw_at lw_m6 83 rfl
theorem q1460 : (Jvm.Cond.instanceMethod ({ cls := "BreathTown", name := "serving", desc := "(III)I" } : Jvm.MethodName)) ∈ lw_all := lw_g (lw_at lw_m6 84 rfl) rfl
theorem q1461 : (Jvm.Cond.code ({ cls := "BreathTown", name := "serving", desc := "(III)I" } : Jvm.MethodName) prog_1_method_56_code (6 : Nat) (Option.some Jvm.ClassFile.FieldType.int)) ∈ lw_all := lw_g (lw_at lw_m6 85 rfl) rfl
theorem q1462 : (Jvm.Cond.methodLink "BreathTown" (358 : Nat) ({ cls := "BreathTown", name := "areServed", desc := "(I)Z" } : Jvm.MethodName)) ∈ lw_all := lw_g (lw_at lw_m6 86 rfl) rfl
theorem q1463 : (Jvm.Cond.privateMethod ({ cls := "BreathTown", name := "areServed", desc := "(I)Z" } : Jvm.MethodName)) ∈ lw_tbl := lw_at lw_m6 87 rfl
theorem q1464 : (Jvm.Cond.instanceMethod ({ cls := "BreathTown", name := "areServed", desc := "(I)Z" } : Jvm.MethodName)) ∈ lw_all := lw_g (lw_at lw_m6 88 rfl) rfl
theorem q1465 : (Jvm.Cond.code ({ cls := "BreathTown", name := "areServed", desc := "(I)Z" } : Jvm.MethodName) prog_1_method_55_code (5 : Nat) (Option.some Jvm.ClassFile.FieldType.boolean)) ∈ lw_all := lw_g (lw_at lw_m6 89 rfl) rfl
theorem q1466 : (Jvm.Cond.methodLink "BreathTown" (364 : Nat) ({ cls := "java/lang/Integer", name := "bitCount", desc := "(I)I" } : Jvm.MethodName)) ∈ lw_all := lw_g (lw_at lw_m6 90 rfl) rfl
theorem q1473 : (Jvm.Cond.instanceMethod ({ cls := "BreathTown", name := "undo", desc := "()Z" } : Jvm.MethodName)) ∈ lw_all := lw_g (lw_at lw_m6 97 rfl) rfl
theorem q1474 : (Jvm.Cond.selects "BreathTown" ({ cls := "BreathTown", name := "undo", desc := "()Z" } : Jvm.MethodName) ({ cls := "BreathTown", name := "undo", desc := "()Z" } : Jvm.MethodName)) ∈ lw_all := lw_g (lw_at lw_m6 98 rfl) rfl
theorem q1475 : (Jvm.Cond.code ({ cls := "BreathTown", name := "undo", desc := "()Z" } : Jvm.MethodName) prog_1_method_59_code (1 : Nat) (Option.some Jvm.ClassFile.FieldType.boolean)) ∈ lw_all := lw_g (lw_at lw_m6 99 rfl) rfl
theorem q1476 : (Jvm.Cond.methodLink "BreathTown" (369 : Nat) ({ cls := "BreathTown$State", name := "copy", desc := "(LBreathTown$State;)V" } : Jvm.MethodName)) ∈ lw_all := lw_g (lw_at lw_m6 100 rfl) rfl
theorem q1481 : (Jvm.Cond.instanceMethod ({ cls := "BreathTown", name := "go", desc := "(I)I" } : Jvm.MethodName)) ∈ lw_all := lw_g (lw_at lw_m6 105 rfl) rfl
theorem q1482 : (Jvm.Cond.selects "BreathTown" ({ cls := "BreathTown", name := "go", desc := "(I)I" } : Jvm.MethodName) ({ cls := "BreathTown", name := "go", desc := "(I)I" } : Jvm.MethodName)) ∈ lw_all := lw_g (lw_at lw_m6 106 rfl) rfl
theorem q1483 : (Jvm.Cond.code ({ cls := "BreathTown", name := "go", desc := "(I)I" } : Jvm.MethodName) prog_1_method_60_code (2 : Nat) (Option.some Jvm.ClassFile.FieldType.int)) ∈ lw_all := lw_g (lw_at lw_m6 107 rfl) rfl
theorem q1484 : (Jvm.Cond.methodLink "BreathTown" (373 : Nat) ({ cls := "BreathTown", name := "keeps", desc := "()V" } : Jvm.MethodName)) ∈ lw_all := lw_g (lw_at lw_m6 108 rfl) rfl
theorem q1485 : (Jvm.Cond.privateMethod ({ cls := "BreathTown", name := "keeps", desc := "()V" } : Jvm.MethodName)) ∈ lw_tbl := lw_at lw_m6 109 rfl
theorem q1486 : (Jvm.Cond.instanceMethod ({ cls := "BreathTown", name := "keeps", desc := "()V" } : Jvm.MethodName)) ∈ lw_all := lw_g (lw_at lw_m6 110 rfl) rfl
theorem q1487 : (Jvm.Cond.code ({ cls := "BreathTown", name := "keeps", desc := "()V" } : Jvm.MethodName) prog_1_method_58_code (3 : Nat) (Option.none : Option Jvm.ClassFile.FieldType)) ∈ lw_all := lw_g (lw_at lw_m6 111 rfl) rfl
theorem q1489 : (Jvm.Cond.instanceMethod ({ cls := "BreathTown", name := "send", desc := "(I)I" } : Jvm.MethodName)) ∈ lw_all := lw_g (lw_at lw_m6 113 rfl) rfl
theorem q1490 : (Jvm.Cond.selects "BreathTown" ({ cls := "BreathTown", name := "send", desc := "(I)I" } : Jvm.MethodName) ({ cls := "BreathTown", name := "send", desc := "(I)I" } : Jvm.MethodName)) ∈ lw_all := lw_g (lw_at lw_m6 114 rfl) rfl
theorem q1491 : (Jvm.Cond.code ({ cls := "BreathTown", name := "send", desc := "(I)I" } : Jvm.MethodName) prog_1_method_61_code (3 : Nat) (Option.some Jvm.ClassFile.FieldType.int)) ∈ lw_all := lw_g (lw_at lw_m6 115 rfl) rfl
theorem q1493 : (Jvm.Cond.instanceMethod ({ cls := "BreathTown", name := "hold", desc := "(II)I" } : Jvm.MethodName)) ∈ lw_all := lw_g (lw_at lw_m6 117 rfl) rfl
theorem q1494 : (Jvm.Cond.selects "BreathTown" ({ cls := "BreathTown", name := "hold", desc := "(II)I" } : Jvm.MethodName) ({ cls := "BreathTown", name := "hold", desc := "(II)I" } : Jvm.MethodName)) ∈ lw_all := lw_g (lw_at lw_m6 118 rfl) rfl
theorem q1495 : (Jvm.Cond.code ({ cls := "BreathTown", name := "hold", desc := "(II)I" } : Jvm.MethodName) prog_1_method_63_code (3 : Nat) (Option.some Jvm.ClassFile.FieldType.int)) ∈ lw_all := lw_g (lw_at lw_m6 119 rfl) rfl
theorem q1496 : (Jvm.Cond.methodLink "BreathTown" (379 : Nat) ({ cls := "BreathTown", name := "moves", desc := "(II)V" } : Jvm.MethodName)) ∈ lw_all := lw_g (lw_at lw_m6 120 rfl) rfl
theorem q1497 : (Jvm.Cond.privateMethod ({ cls := "BreathTown", name := "moves", desc := "(II)V" } : Jvm.MethodName)) ∈ lw_tbl := lw_at lw_m6 121 rfl
theorem q1498 : (Jvm.Cond.instanceMethod ({ cls := "BreathTown", name := "moves", desc := "(II)V" } : Jvm.MethodName)) ∈ lw_all := lw_g (lw_at lw_m6 122 rfl) rfl
theorem q1499 : (Jvm.Cond.code ({ cls := "BreathTown", name := "moves", desc := "(II)V" } : Jvm.MethodName) prog_1_method_62_code (3 : Nat) (Option.none : Option Jvm.ClassFile.FieldType)) ∈ lw_all := lw_g (lw_at lw_m6 123 rfl) rfl
theorem q1500 : (Jvm.Cond.methodLink "BreathTown" (376 : Nat) ({ cls := "java/lang/Math", name := "floorMod", desc := "(II)I" } : Jvm.MethodName)) ∈ lw_all := lw_g (lw_at lw_m6 124 rfl) rfl
theorem q1504 : (Jvm.Cond.instanceMethod ({ cls := "BreathTown", name := "days", desc := "(I)I" } : Jvm.MethodName)) ∈ lw_all := lw_g (lw_at lw_m6 128 rfl) rfl
theorem q1505 : (Jvm.Cond.selects "BreathTown" ({ cls := "BreathTown", name := "days", desc := "(I)I" } : Jvm.MethodName) ({ cls := "BreathTown", name := "days", desc := "(I)I" } : Jvm.MethodName)) ∈ lw_all := lw_g (lw_at lw_m6 129 rfl) rfl
theorem q1506 : (Jvm.Cond.code ({ cls := "BreathTown", name := "days", desc := "(I)I" } : Jvm.MethodName) prog_1_method_65_code (4 : Nat) (Option.some Jvm.ClassFile.FieldType.int)) ∈ lw_all := lw_g (lw_at lw_m6 130 rfl) rfl
theorem q1507 : (Jvm.Cond.methodLink "BreathTown" (391 : Nat) ({ cls := "BreathTown", name := "draw", desc := "(I)I" } : Jvm.MethodName)) ∈ lw_all := lw_g (lw_at lw_m6 131 rfl) rfl
theorem q1508 : (Jvm.Cond.privateMethod ({ cls := "BreathTown", name := "draw", desc := "(I)I" } : Jvm.MethodName)) ∈ lw_tbl := lw_at lw_m6 132 rfl
theorem q1509 : (Jvm.Cond.instanceMethod ({ cls := "BreathTown", name := "draw", desc := "(I)I" } : Jvm.MethodName)) ∈ lw_all := lw_g (lw_at lw_m6 133 rfl) rfl
theorem q1510 : (Jvm.Cond.code ({ cls := "BreathTown", name := "draw", desc := "(I)I" } : Jvm.MethodName) prog_1_method_64_code (2 : Nat) (Option.some Jvm.ClassFile.FieldType.int)) ∈ lw_all := lw_g (lw_at lw_m6 134 rfl) rfl
theorem q1511 : (Jvm.Cond.constantLong "BreathTown" (383 : Nat) (1103515245 : Int64)) ∈ lw_all := lw_g (lw_at lw_m6 135 rfl) rfl
theorem q1512 : (Jvm.Cond.constantLong "BreathTown" (385 : Nat) (12345 : Int64)) ∈ lw_all := lw_g (lw_at lw_m6 136 rfl) rfl
theorem q1513 : (Jvm.Cond.constantLong "BreathTown" (387 : Nat) (2147483648 : Int64)) ∈ lw_all := lw_g (lw_at lw_m6 137 rfl) rfl
theorem q1514 : (Jvm.Cond.constantLong "BreathTown" (389 : Nat) (64 : Int64)) ∈ lw_all := lw_g (lw_at lw_m6 138 rfl) rfl
theorem q1516 : (Jvm.Cond.instanceMethod ({ cls := "BreathTown", name := "seed", desc := "(I)Z" } : Jvm.MethodName)) ∈ lw_all := lw_g (lw_at lw_m6 140 rfl) rfl
theorem q1517 : (Jvm.Cond.selects "BreathTown" ({ cls := "BreathTown", name := "seed", desc := "(I)Z" } : Jvm.MethodName) ({ cls := "BreathTown", name := "seed", desc := "(I)Z" } : Jvm.MethodName)) ∈ lw_all := lw_g (lw_at lw_m6 141 rfl) rfl
theorem q1518 : (Jvm.Cond.code ({ cls := "BreathTown", name := "seed", desc := "(I)Z" } : Jvm.MethodName) prog_1_method_66_code (2 : Nat) (Option.some Jvm.ClassFile.FieldType.boolean)) ∈ lw_all := lw_g (lw_at lw_m6 142 rfl) rfl
theorem q1520 : (Jvm.Cond.instanceMethod ({ cls := "BreathTown", name := "see", desc := "()I" } : Jvm.MethodName)) ∈ lw_all := lw_g (lw_at lw_m6 144 rfl) rfl
theorem q1521 : (Jvm.Cond.selects "BreathTown" ({ cls := "BreathTown", name := "see", desc := "()I" } : Jvm.MethodName) ({ cls := "BreathTown", name := "see", desc := "()I" } : Jvm.MethodName)) ∈ lw_all := lw_g (lw_at lw_m6 145 rfl) rfl
theorem q1522 : (Jvm.Cond.code ({ cls := "BreathTown", name := "see", desc := "()I" } : Jvm.MethodName) prog_1_method_68_code (4 : Nat) (Option.some Jvm.ClassFile.FieldType.int)) ∈ lw_all := lw_g (lw_at lw_m6 146 rfl) rfl
theorem q1523 : (Jvm.Cond.methodLink "BreathTown" (394 : Nat) ({ cls := "BreathTown", name := "byteAt", desc := "(I)I" } : Jvm.MethodName)) ∈ lw_all := lw_g (lw_at lw_m6 147 rfl) rfl
theorem q1524 : (Jvm.Cond.privateMethod ({ cls := "BreathTown", name := "byteAt", desc := "(I)I" } : Jvm.MethodName)) ∈ lw_tbl := lw_at lw_m6 148 rfl
theorem q1525 : (Jvm.Cond.instanceMethod ({ cls := "BreathTown", name := "byteAt", desc := "(I)I" } : Jvm.MethodName)) ∈ lw_all := lw_g (lw_at lw_m6 149 rfl) rfl
theorem q1526 : (Jvm.Cond.code ({ cls := "BreathTown", name := "byteAt", desc := "(I)I" } : Jvm.MethodName) prog_1_method_67_code (2 : Nat) (Option.some Jvm.ClassFile.FieldType.int)) ∈ lw_all := lw_g (lw_at lw_m6 150 rfl) rfl
theorem q1528 : (Jvm.Cond.instanceMethod ({ cls := "BreathTown", name := "shifts", desc := "(II)I" } : Jvm.MethodName)) ∈ lw_all := lw_g (lw_at lw_m6 152 rfl) rfl
theorem q1529 : (Jvm.Cond.selects "BreathTown" ({ cls := "BreathTown", name := "shifts", desc := "(II)I" } : Jvm.MethodName) ({ cls := "BreathTown", name := "shifts", desc := "(II)I" } : Jvm.MethodName)) ∈ lw_all := lw_g (lw_at lw_m6 153 rfl) rfl
theorem q1530 : (Jvm.Cond.code ({ cls := "BreathTown", name := "shifts", desc := "(II)I" } : Jvm.MethodName) prog_1_method_70_code (5 : Nat) (Option.some Jvm.ClassFile.FieldType.int)) ∈ lw_all := lw_g (lw_at lw_m6 154 rfl) rfl
theorem q1531 : (Jvm.Cond.methodLink "BreathTown" (397 : Nat) ({ cls := "BreathTown", name := "isShift", desc := "(II)Z" } : Jvm.MethodName)) ∈ lw_all := lw_g (lw_at lw_m6 155 rfl) rfl
theorem q1532 : (Jvm.Cond.privateMethod ({ cls := "BreathTown", name := "isShift", desc := "(II)Z" } : Jvm.MethodName)) ∈ lw_tbl := lw_at lw_m6 156 rfl
theorem q1533 : (Jvm.Cond.instanceMethod ({ cls := "BreathTown", name := "isShift", desc := "(II)Z" } : Jvm.MethodName)) ∈ lw_all := lw_g (lw_at lw_m6 157 rfl) rfl
theorem q1534 : (Jvm.Cond.code ({ cls := "BreathTown", name := "isShift", desc := "(II)Z" } : Jvm.MethodName) prog_1_method_69_code (4 : Nat) (Option.some Jvm.ClassFile.FieldType.boolean)) ∈ lw_all := lw_g (lw_at lw_m6 158 rfl) rfl
theorem q1536 : (Jvm.Cond.instanceMethod ({ cls := "BreathTown", name := "telling", desc := "(II)I" } : Jvm.MethodName)) ∈ lw_all := lw_g (lw_at lw_m6 160 rfl) rfl
theorem q1537 : (Jvm.Cond.selects "BreathTown" ({ cls := "BreathTown", name := "telling", desc := "(II)I" } : Jvm.MethodName) ({ cls := "BreathTown", name := "telling", desc := "(II)I" } : Jvm.MethodName)) ∈ lw_all := lw_g (lw_at lw_m6 161 rfl) rfl
theorem q1538 : (Jvm.Cond.code ({ cls := "BreathTown", name := "telling", desc := "(II)I" } : Jvm.MethodName) prog_1_method_72_code (7 : Nat) (Option.some Jvm.ClassFile.FieldType.int)) ∈ lw_all := lw_g (lw_at lw_m6 162 rfl) rfl
theorem q1539 : (Jvm.Cond.methodLink "BreathTown" (400 : Nat) ({ cls := "BreathTown", name := "shifts", desc := "(II)I" } : Jvm.MethodName)) ∈ lw_all := lw_g (lw_at lw_m6 163 rfl) rfl
theorem q1540 : (Jvm.Cond.methodLink "BreathTown" (403 : Nat) ({ cls := "BreathTown", name := "alike", desc := "(II)I" } : Jvm.MethodName)) ∈ lw_all := lw_g (lw_at lw_m6 164 rfl) rfl
theorem q1541 : (Jvm.Cond.privateMethod ({ cls := "BreathTown", name := "alike", desc := "(II)I" } : Jvm.MethodName)) ∈ lw_tbl := lw_at lw_m6 165 rfl
theorem q1542 : (Jvm.Cond.instanceMethod ({ cls := "BreathTown", name := "alike", desc := "(II)I" } : Jvm.MethodName)) ∈ lw_all := lw_g (lw_at lw_m6 166 rfl) rfl
theorem q1543 : (Jvm.Cond.code ({ cls := "BreathTown", name := "alike", desc := "(II)I" } : Jvm.MethodName) prog_1_method_71_code (7 : Nat) (Option.some Jvm.ClassFile.FieldType.int)) ∈ lw_all := lw_g (lw_at lw_m6 167 rfl) rfl
theorem q1545 : (Jvm.Cond.instanceMethod ({ cls := "BreathTown", name := "ask", desc := "()J" } : Jvm.MethodName)) ∈ lw_all := lw_g (lw_at lw_m6 169 rfl) rfl
theorem q1546 : (Jvm.Cond.selects "BreathTown" ({ cls := "BreathTown", name := "ask", desc := "()J" } : Jvm.MethodName) ({ cls := "BreathTown", name := "ask", desc := "()J" } : Jvm.MethodName)) ∈ lw_all := lw_g (lw_at lw_m6 170 rfl) rfl
theorem q1547 : (Jvm.Cond.codeWith ({ cls := "BreathTown", name := "ask", desc := "()J" } : Jvm.MethodName) prog_1_method_74_code (4 : Nat) (Option.some Jvm.ClassFile.FieldType.long) [((15 : Nat), (24 : Nat), (27 : Nat), (148 : Nat))]) ∈ lw_all := lw_g (lw_at lw_m6 171 rfl) rfl
theorem q1548 : (Jvm.Cond.methodLink "BreathTown" (409 : Nat) ({ cls := "BreathTown$Reader", name := "question", desc := "(I)LBreathTown$Question;" } : Jvm.MethodName)) ∈ lw_all := lw_g (lw_at lw_m6 172 rfl) rfl
theorem q1553 : (Jvm.Cond.laysStatic "BreathTown" "TOLD_OF" "[Ljava/lang/String;") ∈ lw_tbl := lw_at lw_m6 177 rfl
theorem q1649 : (Jvm.Cond.constantLong "BreathTown" (413 : Nat) (-1000000000000000 : Int64)) ∈ lw_all := lw_g (lw_at lw_m7 33 rfl) rfl
theorem q1650 : (Jvm.Cond.methodLink "BreathTown" (415 : Nat) ({ cls := "BreathTown$Question", name := "meets", desc := "(ILBreathTown$Moment;)V" } : Jvm.MethodName)) ∈ lw_all := lw_g (lw_at lw_m7 34 rfl) rfl
theorem q1680 : (Jvm.Cond.methodLink "BreathTown" (421 : Nat) ({ cls := "BreathTown$Question", name := "answer", desc := "()J" } : Jvm.MethodName)) ∈ lw_all := lw_g (lw_at lw_m7 64 rfl) rfl
theorem q1685 : (Jvm.Cond.instanceMethod ({ cls := "BreathTown", name := "image", desc := "()I" } : Jvm.MethodName)) ∈ lw_all := lw_g (lw_at lw_m7 69 rfl) rfl
theorem q1686 : (Jvm.Cond.selects "BreathTown" ({ cls := "BreathTown", name := "image", desc := "()I" } : Jvm.MethodName) ({ cls := "BreathTown", name := "image", desc := "()I" } : Jvm.MethodName)) ∈ lw_all := lw_g (lw_at lw_m7 70 rfl) rfl
theorem q1687 : (Jvm.Cond.code ({ cls := "BreathTown", name := "image", desc := "()I" } : Jvm.MethodName) prog_1_method_77_code (2 : Nat) (Option.some Jvm.ClassFile.FieldType.int)) ∈ lw_all := lw_g (lw_at lw_m7 71 rfl) rfl
theorem q1688 : (Jvm.Cond.methodLink "BreathTown" (428 : Nat) ({ cls := "BreathTown", name := "writes", desc := "(I)V" } : Jvm.MethodName)) ∈ lw_all := lw_g (lw_at lw_m7 72 rfl) rfl
theorem q1689 : (Jvm.Cond.privateMethod ({ cls := "BreathTown", name := "writes", desc := "(I)V" } : Jvm.MethodName)) ∈ lw_tbl := lw_at lw_m7 73 rfl
theorem q1690 : (Jvm.Cond.instanceMethod ({ cls := "BreathTown", name := "writes", desc := "(I)V" } : Jvm.MethodName)) ∈ lw_all := lw_g (lw_at lw_m7 74 rfl) rfl
theorem q1691 : (Jvm.Cond.code ({ cls := "BreathTown", name := "writes", desc := "(I)V" } : Jvm.MethodName) prog_1_method_75_code (2 : Nat) (Option.none : Option Jvm.ClassFile.FieldType)) ∈ lw_all := lw_g (lw_at lw_m7 75 rfl) rfl
theorem q1692 : (Jvm.Cond.methodLink "BreathTown" (431 : Nat) ({ cls := "BreathTown", name := "check", desc := "([BI)I" } : Jvm.MethodName)) ∈ lw_all := lw_g (lw_at lw_m7 76 rfl) rfl
theorem q1693 : (Jvm.Cond.static ({ cls := "BreathTown", name := "check", desc := "([BI)I" } : Jvm.MethodName)) ∈ lw_all := lw_g (lw_at lw_m7 77 rfl) rfl
theorem q1694 : (Jvm.Cond.code ({ cls := "BreathTown", name := "check", desc := "([BI)I" } : Jvm.MethodName) prog_1_method_76_code (4 : Nat) (Option.some Jvm.ClassFile.FieldType.int)) ∈ lw_all := lw_g (lw_at lw_m7 78 rfl) rfl
theorem q1696 : (Jvm.Cond.instanceMethod ({ cls := "BreathTown", name := "octet", desc := "(I)I" } : Jvm.MethodName)) ∈ lw_all := lw_g (lw_at lw_m7 80 rfl) rfl
theorem q1697 : (Jvm.Cond.selects "BreathTown" ({ cls := "BreathTown", name := "octet", desc := "(I)I" } : Jvm.MethodName) ({ cls := "BreathTown", name := "octet", desc := "(I)I" } : Jvm.MethodName)) ∈ lw_all := lw_g (lw_at lw_m7 81 rfl) rfl
theorem q1698 : (Jvm.Cond.code ({ cls := "BreathTown", name := "octet", desc := "(I)I" } : Jvm.MethodName) prog_1_method_78_code (2 : Nat) (Option.some Jvm.ClassFile.FieldType.int)) ∈ lw_all := lw_g (lw_at lw_m7 82 rfl) rfl
theorem q1700 : (Jvm.Cond.instanceMethod ({ cls := "BreathTown", name := "on", desc := "()Z" } : Jvm.MethodName)) ∈ lw_all := lw_g (lw_at lw_m7 84 rfl) rfl
theorem q1701 : (Jvm.Cond.selects "BreathTown" ({ cls := "BreathTown", name := "on", desc := "()Z" } : Jvm.MethodName) ({ cls := "BreathTown", name := "on", desc := "()Z" } : Jvm.MethodName)) ∈ lw_all := lw_g (lw_at lw_m7 85 rfl) rfl
theorem q1702 : (Jvm.Cond.code ({ cls := "BreathTown", name := "on", desc := "()Z" } : Jvm.MethodName) prog_1_method_80_code (4 : Nat) (Option.some Jvm.ClassFile.FieldType.boolean)) ∈ lw_all := lw_g (lw_at lw_m7 86 rfl) rfl
theorem q1703 : (Jvm.Cond.methodLink "BreathTown" (438 : Nat) ({ cls := "BreathTown", name := "isImage", desc := "(I)Z" } : Jvm.MethodName)) ∈ lw_all := lw_g (lw_at lw_m7 87 rfl) rfl
theorem q1704 : (Jvm.Cond.privateMethod ({ cls := "BreathTown", name := "isImage", desc := "(I)Z" } : Jvm.MethodName)) ∈ lw_tbl := lw_at lw_m7 88 rfl
theorem q1705 : (Jvm.Cond.instanceMethod ({ cls := "BreathTown", name := "isImage", desc := "(I)Z" } : Jvm.MethodName)) ∈ lw_all := lw_g (lw_at lw_m7 89 rfl) rfl
theorem q1706 : (Jvm.Cond.code ({ cls := "BreathTown", name := "isImage", desc := "(I)Z" } : Jvm.MethodName) prog_1_method_79_code (6 : Nat) (Option.some Jvm.ClassFile.FieldType.boolean)) ∈ lw_all := lw_g (lw_at lw_m7 90 rfl) rfl
theorem q1708 : (Jvm.Cond.instanceMethod ({ cls := "BreathTown", name := "status", desc := "(I)I" } : Jvm.MethodName)) ∈ lw_all := lw_g (lw_at lw_m7 92 rfl) rfl
theorem q1709 : (Jvm.Cond.selects "BreathTown" ({ cls := "BreathTown", name := "status", desc := "(I)I" } : Jvm.MethodName) ({ cls := "BreathTown", name := "status", desc := "(I)I" } : Jvm.MethodName)) ∈ lw_all := lw_g (lw_at lw_m7 93 rfl) rfl
theorem q1710 : (Jvm.Cond.code ({ cls := "BreathTown", name := "status", desc := "(I)I" } : Jvm.MethodName) prog_1_method_81_code (2 : Nat) (Option.some Jvm.ClassFile.FieldType.int)) ∈ lw_all := lw_g (lw_at lw_m7 94 rfl) rfl
theorem q2656 : (Jvm.Cond.castable "BreathTown" "java/lang/Object") ∈ lw_tbl := lw_at lw_m11 80 rfl
theorem q2692 : (Jvm.Cond.stringRef "BreathTown" (474 : Nat) "place") ∈ lw_tbl := lw_at lw_m11 116 rfl
theorem q2693 : (Jvm.Cond.stringRef "BreathTown" (475 : Nat) "street") ∈ lw_tbl := lw_at lw_m11 117 rfl
theorem q2694 : (Jvm.Cond.stringRef "BreathTown" (476 : Nat) "from") ∈ lw_tbl := lw_at lw_m11 118 rfl
theorem q2695 : (Jvm.Cond.stringRef "BreathTown" (477 : Nat) "to") ∈ lw_tbl := lw_at lw_m11 119 rfl
theorem q2696 : (Jvm.Cond.stringRef "BreathTown" (478 : Nat) "takes") ∈ lw_tbl := lw_at lw_m11 120 rfl
theorem q2697 : (Jvm.Cond.stringRef "BreathTown" (447 : Nat) "round") ∈ lw_tbl := lw_at lw_m11 121 rfl
theorem q2698 : (Jvm.Cond.stringRef "BreathTown" (479 : Nat) "shift") ∈ lw_tbl := lw_at lw_m11 122 rfl
theorem q2699 : (Jvm.Cond.stringRef "BreathTown" (480 : Nat) "wide") ∈ lw_tbl := lw_at lw_m11 123 rfl
theorem q2700 : (Jvm.Cond.stringRef "BreathTown" (482 : Nat) "walker") ∈ lw_tbl := lw_at lw_m11 124 rfl
theorem q2701 : (Jvm.Cond.stringRef "BreathTown" (483 : Nat) "broad") ∈ lw_tbl := lw_at lw_m11 125 rfl
theorem q2702 : (Jvm.Cond.stringRef "BreathTown" (484 : Nat) "at") ∈ lw_tbl := lw_at lw_m11 126 rfl
theorem q2703 : (Jvm.Cond.stringRef "BreathTown" (485 : Nat) "begin") ∈ lw_tbl := lw_at lw_m11 127 rfl
theorem q2704 : (Jvm.Cond.stringRef "BreathTown" (446 : Nat) "tide") ∈ lw_tbl := lw_at lw_m11 128 rfl
theorem q2705 : (Jvm.Cond.stringRef "BreathTown" (442 : Nat) "clock") ∈ lw_tbl := lw_at lw_m11 129 rfl
theorem q2706 : (Jvm.Cond.stringRef "BreathTown" (444 : Nat) "day") ∈ lw_tbl := lw_at lw_m11 130 rfl
theorem q2707 : (Jvm.Cond.stringRef "BreathTown" (487 : Nat) "min") ∈ lw_tbl := lw_at lw_m11 131 rfl
theorem q2708 : (Jvm.Cond.stringRef "BreathTown" (488 : Nat) "max") ∈ lw_tbl := lw_at lw_m11 132 rfl
theorem q2710 : (Jvm.Cond.stringRef "BreathTown" (441 : Nat) "hour") ∈ lw_tbl := lw_at lw_m11 134 rfl
theorem q2711 : (Jvm.Cond.stringRef "BreathTown" (452 : Nat) "width") ∈ lw_tbl := lw_at lw_m11 135 rfl
theorem q2712 : (Jvm.Cond.stringRef "BreathTown" (454 : Nat) "passes") ∈ lw_tbl := lw_at lw_m11 136 rfl
theorem q2713 : (Jvm.Cond.stringRef "BreathTown" (459 : Nat) "first") ∈ lw_tbl := lw_at lw_m11 137 rfl
theorem q2714 : (Jvm.Cond.stringRef "BreathTown" (461 : Nat) "last") ∈ lw_tbl := lw_at lw_m11 138 rfl
theorem q2715 : (Jvm.Cond.stringRef "BreathTown" (463 : Nat) "often") ∈ lw_tbl := lw_at lw_m11 139 rfl
theorem q2716 : (Jvm.Cond.stringRef "BreathTown" (465 : Nat) "total") ∈ lw_tbl := lw_at lw_m11 140 rfl
theorem q2717 : (Jvm.Cond.stringRef "BreathTown" (467 : Nat) "most") ∈ lw_tbl := lw_at lw_m11 141 rfl
theorem q2718 : (Jvm.Cond.stringRef "BreathTown" (469 : Nat) "least") ∈ lw_tbl := lw_at lw_m11 142 rfl
theorem in_X0 : ∀ w ∈ wsX00, w ∈ lw_all := lw_in wsX00 [471, 473, 475, 477, 479, 481, 483, 485, 487, 489, 491, 493, 495, 497, 499, 501, 503, 505, 507, 509, 511, 513, 515, 517, 519, 521, 523, 525, 527, 529, 531, 533, 535, 537, 539] (by decide +kernel) (by decide +kernel)
