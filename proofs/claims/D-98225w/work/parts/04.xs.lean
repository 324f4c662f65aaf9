/-! BreathTown$Town -/
set_option maxRecDepth 100000
def RX1 : String := "BreathTown$Town"
def TX1 : u_T := fun k => match k with
  | 0 => ("BreathTown$Town", "places", "Ljava/util/List;", true)
  | 1 => ("BreathTown$Town", "streets", "Ljava/util/List;", true)
  | 2 => ("BreathTown$Town", "walkers", "Ljava/util/List;", true)
  | 3 => ("BreathTown$Town", "statements", "I", false)
  | _ => ("BreathTown$Town", "begin", "I", false)
def tyX1 : Nat → FieldType := fun k => match k with
  | 0 => .object "java/util/List"
  | 1 => .object "java/util/List"
  | 2 => .object "java/util/List"
  | 3 => .int
  | _ => .int
abbrev wsX10 : List Cond := u_ws RX1 TX1 5
theorem nmX1 : ∀ a, a < 5 → ∀ b, b < 5 → a ≠ b → (TX1 a).2.1 ≠ (TX1 b).2.1 := by decide +kernel
theorem tyX1_ok : ∀ k, k < 5 → parseFieldDescriptor (TX1 k).2.2.1 = some (tyX1 k) := by decide +kernel
abbrev cX1_init : ByteArray := prog_19_method_1_code
def yX1_init : MethodName := ⟨RX1, "<init>", "()V"⟩
def dkwX1_init_1 : List UInt8 := [183, 0, 9, 181, 0, 18, 42, 187, 0, 7, 89, 5, 183, 0, 9, 181, 0, 21, 177]
abbrev dktX1_init_1 : List UInt8 := dkwX1_init_1 ++ []
def dkwX1_init_0 : List UInt8 := [42, 183, 0, 1, 42, 187, 0, 7, 89, 7, 183, 0, 9, 181, 0, 12, 42, 187, 0, 7, 89, 7]
abbrev dktX1_init_0 : List UInt8 := dkwX1_init_0 ++ dktX1_init_1
theorem dksX1_init_0 : cX1_init.data.toList.drop 0 = dktX1_init_0 := by decide +kernel
theorem dksX1_init_1 : cX1_init.data.toList.drop 22 = dktX1_init_1 := dk_seg dksX1_init_0 22 rfl rfl
theorem dX1_init_0 : decode cX1_init 0 = .ok (.aload_n 0, 1) := dk_42 (dk_at dksX1_init_0 0 rfl rfl)
theorem dX1_init_1 : decode cX1_init 1 = .ok (.invokespecial 1, 3) := dk_183 0 1 (dk_at dksX1_init_0 1 rfl rfl)
theorem dX1_init_4 : decode cX1_init 4 = .ok (.aload_n 0, 1) := dk_42 (dk_at dksX1_init_0 4 rfl rfl)
theorem dX1_init_5 : decode cX1_init 5 = .ok (.new 7, 3) := dk_187 0 7 (dk_at dksX1_init_0 5 rfl rfl)
theorem dX1_init_8 : decode cX1_init 8 = .ok (.dup, 1) := dk_89 (dk_at dksX1_init_0 8 rfl rfl)
theorem dX1_init_9 : decode cX1_init 9 = .ok (.iconst 4, 1) := dk_7 (dk_at dksX1_init_0 9 rfl rfl)
theorem dX1_init_10 : decode cX1_init 10 = .ok (.invokespecial 9, 3) := dk_183 0 9 (dk_at dksX1_init_0 10 rfl rfl)
theorem dX1_init_13 : decode cX1_init 13 = .ok (.putfield 12, 3) := dk_181 0 12 (dk_at dksX1_init_0 13 rfl rfl)
theorem dX1_init_16 : decode cX1_init 16 = .ok (.aload_n 0, 1) := dk_42 (dk_at dksX1_init_0 16 rfl rfl)
theorem dX1_init_17 : decode cX1_init 17 = .ok (.new 7, 3) := dk_187 0 7 (dk_at dksX1_init_0 17 rfl rfl)
theorem dX1_init_20 : decode cX1_init 20 = .ok (.dup, 1) := dk_89 (dk_at dksX1_init_0 20 rfl rfl)
theorem dX1_init_21 : decode cX1_init 21 = .ok (.iconst 4, 1) := dk_7 (dk_at dksX1_init_0 21 rfl rfl)
theorem dX1_init_22 : decode cX1_init 22 = .ok (.invokespecial 9, 3) := dk_183 0 9 (dk_at dksX1_init_1 0 rfl rfl)
theorem dX1_init_25 : decode cX1_init 25 = .ok (.putfield 18, 3) := dk_181 0 18 (dk_at dksX1_init_1 3 rfl rfl)
theorem dX1_init_28 : decode cX1_init 28 = .ok (.aload_n 0, 1) := dk_42 (dk_at dksX1_init_1 6 rfl rfl)
theorem dX1_init_29 : decode cX1_init 29 = .ok (.new 7, 3) := dk_187 0 7 (dk_at dksX1_init_1 7 rfl rfl)
theorem dX1_init_32 : decode cX1_init 32 = .ok (.dup, 1) := dk_89 (dk_at dksX1_init_1 10 rfl rfl)
theorem dX1_init_33 : decode cX1_init 33 = .ok (.iconst 2, 1) := dk_5 (dk_at dksX1_init_1 11 rfl rfl)
theorem dX1_init_34 : decode cX1_init 34 = .ok (.invokespecial 9, 3) := dk_183 0 9 (dk_at dksX1_init_1 12 rfl rfl)
theorem dX1_init_37 : decode cX1_init 37 = .ok (.putfield 21, 3) := dk_181 0 21 (dk_at dksX1_init_1 15 rfl rfl)
theorem dX1_init_40 : decode cX1_init 40 = .ok (.return_, 1) := dk_177 (dk_at dksX1_init_1 18 rfl rfl)
abbrev cX1_street : ByteArray := prog_19_method_2_code
def yX1_street : MethodName := ⟨RX1, "street", "(I)LBreathTown$Street;"⟩
def dkwX1_street_0 : List UInt8 := [42, 180, 0, 18, 27, 185, 0, 24, 2, 0, 192, 0, 30, 176]
abbrev dktX1_street_0 : List UInt8 := dkwX1_street_0 ++ []
theorem dksX1_street_0 : cX1_street.data.toList.drop 0 = dktX1_street_0 := by decide +kernel
theorem dX1_street_0 : decode cX1_street 0 = .ok (.aload_n 0, 1) := dk_42 (dk_at dksX1_street_0 0 rfl rfl)
theorem dX1_street_1 : decode cX1_street 1 = .ok (.getfield 18, 3) := dk_180 0 18 (dk_at dksX1_street_0 1 rfl rfl)
theorem dX1_street_4 : decode cX1_street 4 = .ok (.iload_n 1, 1) := dk_27 (dk_at dksX1_street_0 4 rfl rfl)
theorem dX1_street_5 : decode cX1_street 5 = .ok (.invokeinterface 24 2, 5) := by decide +kernel
theorem dX1_street_10 : decode cX1_street 10 = .ok (.checkcast 30, 3) := dk_192 0 30 (dk_at dksX1_street_0 10 rfl rfl)
theorem dX1_street_13 : decode cX1_street 13 = .ok (.areturn, 1) := dk_176 (dk_at dksX1_street_0 13 rfl rfl)
abbrev cX1_walker : ByteArray := prog_19_method_3_code
def yX1_walker : MethodName := ⟨RX1, "walker", "(I)LBreathTown$Walker;"⟩
def dkwX1_walker_0 : List UInt8 := [42, 180, 0, 21, 27, 185, 0, 24, 2, 0, 192, 0, 32, 176]
abbrev dktX1_walker_0 : List UInt8 := dkwX1_walker_0 ++ []
theorem dksX1_walker_0 : cX1_walker.data.toList.drop 0 = dktX1_walker_0 := by decide +kernel
theorem dX1_walker_0 : decode cX1_walker 0 = .ok (.aload_n 0, 1) := dk_42 (dk_at dksX1_walker_0 0 rfl rfl)
theorem dX1_walker_1 : decode cX1_walker 1 = .ok (.getfield 21, 3) := dk_180 0 21 (dk_at dksX1_walker_0 1 rfl rfl)
theorem dX1_walker_4 : decode cX1_walker 4 = .ok (.iload_n 1, 1) := dk_27 (dk_at dksX1_walker_0 4 rfl rfl)
theorem dX1_walker_5 : decode cX1_walker 5 = .ok (.invokeinterface 24 2, 5) := by decide +kernel
theorem dX1_walker_10 : decode cX1_walker 10 = .ok (.checkcast 32, 3) := dk_192 0 32 (dk_at dksX1_walker_0 10 rfl rfl)
theorem dX1_walker_13 : decode cX1_walker 13 = .ok (.areturn, 1) := dk_176 (dk_at dksX1_walker_0 13 rfl rfl)
theorem q178 : (Jvm.Cond.initialized "BreathTown$Town") ∈ lw_all := lw_g (lw_at lw_m1 2 rfl) rfl
theorem q226 : (Jvm.Cond.instantiable "BreathTown$Town" (5 : Nat)) ∈ lw_all := lw_g (lw_at lw_m1 50 rfl) rfl
theorem q228 : (Jvm.Cond.instanceMethod ({ cls := "BreathTown$Town", name := "<init>", desc := "()V" } : Jvm.MethodName)) ∈ lw_all := lw_g (lw_at lw_m1 52 rfl) rfl
theorem q229 : (Jvm.Cond.code ({ cls := "BreathTown$Town", name := "<init>", desc := "()V" } : Jvm.MethodName) prog_19_method_1_code (1 : Nat) (Option.none : Option Jvm.ClassFile.FieldType)) ∈ lw_all := lw_g (lw_at lw_m1 53 rfl) rfl
theorem q230 : (Jvm.Cond.methodLink "BreathTown$Town" (1 : Nat) ({ cls := "java/lang/Object", name := "<init>", desc := "()V" } : Jvm.MethodName)) ∈ lw_all := lw_g (lw_at lw_m1 54 rfl) rfl
theorem q231 : (Jvm.Cond.classLink "BreathTown$Town" (7 : Nat) "java/util/ArrayList") ∈ lw_all := lw_g (lw_at lw_m1 55 rfl) rfl
theorem q233 : (Jvm.Cond.methodLink "BreathTown$Town" (9 : Nat) ({ cls := "java/util/ArrayList", name := "<init>", desc := "(I)V" } : Jvm.MethodName)) ∈ lw_all := lw_g (lw_at lw_m1 57 rfl) rfl
theorem q259 : (Jvm.Cond.fieldLink "BreathTown$Town" (12 : Nat) "BreathTown$Town" "places" "Ljava/util/List;") ∈ lw_all := lw_g (lw_at lw_m1 83 rfl) rfl
theorem q262 : (Jvm.Cond.fieldLink "BreathTown$Town" (18 : Nat) "BreathTown$Town" "streets" "Ljava/util/List;") ∈ lw_all := lw_g (lw_at lw_m1 86 rfl) rfl
theorem q265 : (Jvm.Cond.fieldLink "BreathTown$Town" (21 : Nat) "BreathTown$Town" "walkers" "Ljava/util/List;") ∈ lw_all := lw_g (lw_at lw_m1 89 rfl) rfl
theorem q272 : (Jvm.Cond.laysFinal "BreathTown$Town" "BreathTown$Town" "places" "Ljava/util/List;") ∈ lw_all := lw_g (lw_at lw_m1 96 rfl) rfl
theorem q273 : (Jvm.Cond.soleField "BreathTown$Town" "places") ∈ lw_all := lw_g (lw_at lw_m1 97 rfl) rfl
theorem q274 : (Jvm.Cond.laysFinal "BreathTown$Town" "BreathTown$Town" "streets" "Ljava/util/List;") ∈ lw_all := lw_g (lw_at lw_m1 98 rfl) rfl
theorem q275 : (Jvm.Cond.soleField "BreathTown$Town" "streets") ∈ lw_all := lw_g (lw_at lw_m1 99 rfl) rfl
theorem q276 : (Jvm.Cond.laysFinal "BreathTown$Town" "BreathTown$Town" "walkers" "Ljava/util/List;") ∈ lw_all := lw_g (lw_at lw_m1 100 rfl) rfl
theorem q277 : (Jvm.Cond.soleField "BreathTown$Town" "walkers") ∈ lw_all := lw_g (lw_at lw_m1 101 rfl) rfl
theorem q278 : (Jvm.Cond.lays "BreathTown$Town" "BreathTown$Town" "statements" "I") ∈ lw_all := lw_g (lw_at lw_m1 102 rfl) rfl
theorem q279 : (Jvm.Cond.soleField "BreathTown$Town" "statements") ∈ lw_all := lw_g (lw_at lw_m1 103 rfl) rfl
theorem q280 : (Jvm.Cond.lays "BreathTown$Town" "BreathTown$Town" "begin" "I") ∈ lw_all := lw_g (lw_at lw_m1 104 rfl) rfl
theorem q281 : (Jvm.Cond.soleField "BreathTown$Town" "begin") ∈ lw_all := lw_g (lw_at lw_m1 105 rfl) rfl
theorem q282 : (Jvm.Cond.superclass "BreathTown$Town" "java/lang/Object") ∈ lw_all := lw_g (lw_at lw_m1 106 rfl) rfl
theorem q874 : (Jvm.Cond.selects "BreathTown$Town" ({ cls := "java/lang/Object", name := "getClass", desc := "()Ljava/lang/Class;" } : Jvm.MethodName) ({ cls := "java/lang/Object", name := "getClass", desc := "()Ljava/lang/Class;" } : Jvm.MethodName)) ∈ lw_all := lw_g (lw_at lw_m3 218 rfl) rfl
theorem q1186 : (Jvm.Cond.instanceMethod ({ cls := "BreathTown$Town", name := "street", desc := "(I)LBreathTown$Street;" } : Jvm.MethodName)) ∈ lw_all := lw_g (lw_at lw_m5 50 rfl) rfl
theorem q1187 : (Jvm.Cond.selects "BreathTown$Town" ({ cls := "BreathTown$Town", name := "street", desc := "(I)LBreathTown$Street;" } : Jvm.MethodName) ({ cls := "BreathTown$Town", name := "street", desc := "(I)LBreathTown$Street;" } : Jvm.MethodName)) ∈ lw_all := lw_g (lw_at lw_m5 51 rfl) rfl
theorem q1188 : (Jvm.Cond.code ({ cls := "BreathTown$Town", name := "street", desc := "(I)LBreathTown$Street;" } : Jvm.MethodName) prog_19_method_2_code (2 : Nat) (Option.some (Jvm.ClassFile.FieldType.object "BreathTown$Street"))) ∈ lw_all := lw_g (lw_at lw_m5 52 rfl) rfl
theorem q1189 : (Jvm.Cond.interfaceEntry "BreathTown$Town" (24 : Nat)) ∈ lw_tbl := lw_at lw_m5 53 rfl
theorem q1190 : (Jvm.Cond.methodLink "BreathTown$Town" (24 : Nat) ({ cls := "java/util/List", name := "get", desc := "(I)Ljava/lang/Object;" } : Jvm.MethodName)) ∈ lw_all := lw_g (lw_at lw_m5 54 rfl) rfl
theorem q1191 : (Jvm.Cond.classLink "BreathTown$Town" (30 : Nat) "BreathTown$Street") ∈ lw_all := lw_g (lw_at lw_m5 55 rfl) rfl
theorem q1197 : (Jvm.Cond.instanceMethod ({ cls := "BreathTown$Town", name := "walker", desc := "(I)LBreathTown$Walker;" } : Jvm.MethodName)) ∈ lw_all := lw_g (lw_at lw_m5 61 rfl) rfl
theorem q1198 : (Jvm.Cond.selects "BreathTown$Town" ({ cls := "BreathTown$Town", name := "walker", desc := "(I)LBreathTown$Walker;" } : Jvm.MethodName) ({ cls := "BreathTown$Town", name := "walker", desc := "(I)LBreathTown$Walker;" } : Jvm.MethodName)) ∈ lw_all := lw_g (lw_at lw_m5 62 rfl) rfl
theorem q1199 : (Jvm.Cond.code ({ cls := "BreathTown$Town", name := "walker", desc := "(I)LBreathTown$Walker;" } : Jvm.MethodName) prog_19_method_3_code (2 : Nat) (Option.some (Jvm.ClassFile.FieldType.object "BreathTown$Walker"))) ∈ lw_all := lw_g (lw_at lw_m5 63 rfl) rfl
theorem q1200 : (Jvm.Cond.classLink "BreathTown$Town" (32 : Nat) "BreathTown$Walker") ∈ lw_all := lw_g (lw_at lw_m5 64 rfl) rfl
theorem q2657 : (Jvm.Cond.castable "BreathTown$Town" "java/lang/Object") ∈ lw_tbl := lw_at lw_m11 81 rfl
theorem in_X1 : ∀ w ∈ wsX10, w ∈ lw_all := lw_in wsX10 [272, 274, 276, 278, 280] (by decide +kernel) (by decide +kernel)
/-! BreathTown$Reader -/
set_option maxRecDepth 100000
def RX2 : String := "BreathTown$Reader"
def TX2 : u_T := fun k => match k with
  | 0 => ("BreathTown$Reader", "fault", "LBreathTown$Fault;", true)
  | 1 => ("BreathTown$Reader", "size", "I", false)
  | 2 => ("BreathTown$Reader", "at", "I", false)
  | 3 => ("BreathTown$Reader", "from", "I", false)
  | 4 => ("BreathTown$Reader", "open", "I", false)
  | 5 => ("BreathTown$Reader", "isQuestion", "Z", false)
  | 6 => ("BreathTown$Reader", "to", "LBreathTown$Town;", false)
  | _ => ("BreathTown$Reader", "this$0", "LBreathTown;", true)
def tyX2 : Nat → FieldType := fun k => match k with
  | 0 => .object "BreathTown$Fault"
  | 1 => .int
  | 2 => .int
  | 3 => .int
  | 4 => .int
  | 5 => .boolean
  | 6 => .object "BreathTown$Town"
  | _ => .object "BreathTown"
abbrev wsX20 : List Cond := u_ws RX2 TX2 8
theorem nmX2 : ∀ a, a < 8 → ∀ b, b < 8 → a ≠ b → (TX2 a).2.1 ≠ (TX2 b).2.1 := by decide +kernel
theorem tyX2_ok : ∀ k, k < 8 → parseFieldDescriptor (TX2 k).2.2.1 = some (tyX2 k) := by decide +kernel
abbrev cX2_init : ByteArray := prog_14_method_1_code
def yX2_init : MethodName := ⟨RX2, "<init>", "(LBreathTown;)V"⟩
def dkwX2_init_0 : List UInt8 := [42, 43, 181, 0, 3, 42, 183, 0, 9, 42, 187, 0, 15, 89, 183, 0, 17, 181, 0, 18, 177]
abbrev dktX2_init_0 : List UInt8 := dkwX2_init_0 ++ []
theorem dksX2_init_0 : cX2_init.data.toList.drop 0 = dktX2_init_0 := by decide +kernel
theorem dX2_init_0 : decode cX2_init 0 = .ok (.aload_n 0, 1) := dk_42 (dk_at dksX2_init_0 0 rfl rfl)
theorem dX2_init_1 : decode cX2_init 1 = .ok (.aload_n 1, 1) := dk_43 (dk_at dksX2_init_0 1 rfl rfl)
theorem dX2_init_2 : decode cX2_init 2 = .ok (.putfield 3, 3) := dk_181 0 3 (dk_at dksX2_init_0 2 rfl rfl)
theorem dX2_init_5 : decode cX2_init 5 = .ok (.aload_n 0, 1) := dk_42 (dk_at dksX2_init_0 5 rfl rfl)
theorem dX2_init_6 : decode cX2_init 6 = .ok (.invokespecial 9, 3) := dk_183 0 9 (dk_at dksX2_init_0 6 rfl rfl)
theorem dX2_init_9 : decode cX2_init 9 = .ok (.aload_n 0, 1) := dk_42 (dk_at dksX2_init_0 9 rfl rfl)
theorem dX2_init_10 : decode cX2_init 10 = .ok (.new 15, 3) := dk_187 0 15 (dk_at dksX2_init_0 10 rfl rfl)
theorem dX2_init_13 : decode cX2_init 13 = .ok (.dup, 1) := dk_89 (dk_at dksX2_init_0 13 rfl rfl)
theorem dX2_init_14 : decode cX2_init 14 = .ok (.invokespecial 17, 3) := dk_183 0 17 (dk_at dksX2_init_0 14 rfl rfl)
theorem dX2_init_17 : decode cX2_init 17 = .ok (.putfield 18, 3) := dk_181 0 18 (dk_at dksX2_init_0 17 rfl rfl)
theorem dX2_init_20 : decode cX2_init 20 = .ok (.return_, 1) := dk_177 (dk_at dksX2_init_0 20 rfl rfl)
abbrev cX2_all : ByteArray := prog_14_method_17_code
def yX2_all : MethodName := ⟨RX2, "all", "(I)LBreathTown$Town;"⟩
def dkwX2_all_4 : List UInt8 := [16, 59, 182, 0, 146, 167, 255, 190, 42, 180, 0, 103, 176]
abbrev dktX2_all_4 : List UInt8 := dkwX2_all_4 ++ []
def dkwX2_all_3 : List UInt8 := [180, 0, 135, 4, 96, 181, 0, 135, 42, 182, 0, 70, 77, 42, 44, 42, 180, 0, 61, 182, 0, 142, 42]
abbrev dktX2_all_3 : List UInt8 := dkwX2_all_3 ++ dktX2_all_4
def dkwX2_all_2 : List UInt8 := [16, 70, 160, 0, 7, 4, 167, 0, 4, 3, 42, 180, 0, 36, 182, 0, 138, 42, 180, 0, 103, 89]
abbrev dktX2_all_2 : List UInt8 := dkwX2_all_2 ++ dktX2_all_3
def dkwX2_all_1 : List UInt8 := [181, 0, 128, 42, 3, 181, 0, 131, 42, 182, 0, 43, 2, 159, 0, 64, 42, 42, 180, 0, 103, 180, 0, 135]
abbrev dktX2_all_1 : List UInt8 := dkwX2_all_1 ++ dktX2_all_2
def dkwX2_all_0 : List UInt8 := [42, 187, 0, 108, 89, 183, 0, 127, 181, 0, 103, 42, 27, 181, 0, 29, 42, 3, 181, 0, 36, 42, 3]
abbrev dktX2_all_0 : List UInt8 := dkwX2_all_0 ++ dktX2_all_1
theorem dksX2_all_0 : cX2_all.data.toList.drop 0 = dktX2_all_0 := by decide +kernel
theorem dksX2_all_1 : cX2_all.data.toList.drop 23 = dktX2_all_1 := dk_seg dksX2_all_0 23 rfl rfl
theorem dksX2_all_2 : cX2_all.data.toList.drop 47 = dktX2_all_2 := dk_seg dksX2_all_1 24 rfl rfl
theorem dksX2_all_3 : cX2_all.data.toList.drop 69 = dktX2_all_3 := dk_seg dksX2_all_2 22 rfl rfl
theorem dksX2_all_4 : cX2_all.data.toList.drop 92 = dktX2_all_4 := dk_seg dksX2_all_3 23 rfl rfl
theorem dX2_all_0 : decode cX2_all 0 = .ok (.aload_n 0, 1) := dk_42 (dk_at dksX2_all_0 0 rfl rfl)
theorem dX2_all_1 : decode cX2_all 1 = .ok (.new 108, 3) := dk_187 0 108 (dk_at dksX2_all_0 1 rfl rfl)
theorem dX2_all_4 : decode cX2_all 4 = .ok (.dup, 1) := dk_89 (dk_at dksX2_all_0 4 rfl rfl)
theorem dX2_all_5 : decode cX2_all 5 = .ok (.invokespecial 127, 3) := dk_183 0 127 (dk_at dksX2_all_0 5 rfl rfl)
theorem dX2_all_8 : decode cX2_all 8 = .ok (.putfield 103, 3) := dk_181 0 103 (dk_at dksX2_all_0 8 rfl rfl)
theorem dX2_all_11 : decode cX2_all 11 = .ok (.aload_n 0, 1) := dk_42 (dk_at dksX2_all_0 11 rfl rfl)
theorem dX2_all_12 : decode cX2_all 12 = .ok (.iload_n 1, 1) := dk_27 (dk_at dksX2_all_0 12 rfl rfl)
theorem dX2_all_13 : decode cX2_all 13 = .ok (.putfield 29, 3) := dk_181 0 29 (dk_at dksX2_all_0 13 rfl rfl)
theorem dX2_all_16 : decode cX2_all 16 = .ok (.aload_n 0, 1) := dk_42 (dk_at dksX2_all_0 16 rfl rfl)
theorem dX2_all_17 : decode cX2_all 17 = .ok (.iconst 0, 1) := dk_3 (dk_at dksX2_all_0 17 rfl rfl)
theorem dX2_all_18 : decode cX2_all 18 = .ok (.putfield 36, 3) := dk_181 0 36 (dk_at dksX2_all_0 18 rfl rfl)
theorem dX2_all_21 : decode cX2_all 21 = .ok (.aload_n 0, 1) := dk_42 (dk_at dksX2_all_0 21 rfl rfl)
theorem dX2_all_22 : decode cX2_all 22 = .ok (.iconst 0, 1) := dk_3 (dk_at dksX2_all_0 22 rfl rfl)
theorem dX2_all_23 : decode cX2_all 23 = .ok (.putfield 128, 3) := dk_181 0 128 (dk_at dksX2_all_1 0 rfl rfl)
theorem dX2_all_26 : decode cX2_all 26 = .ok (.aload_n 0, 1) := dk_42 (dk_at dksX2_all_1 3 rfl rfl)
theorem dX2_all_27 : decode cX2_all 27 = .ok (.iconst 0, 1) := dk_3 (dk_at dksX2_all_1 4 rfl rfl)
theorem dX2_all_28 : decode cX2_all 28 = .ok (.putfield 131, 3) := dk_181 0 131 (dk_at dksX2_all_1 5 rfl rfl)
theorem dX2_all_31 : decode cX2_all 31 = .ok (.aload_n 0, 1) := dk_42 (dk_at dksX2_all_1 8 rfl rfl)
theorem dX2_all_32 : decode cX2_all 32 = .ok (.invokevirtual 43, 3) := dk_182 0 43 (dk_at dksX2_all_1 9 rfl rfl)
theorem dX2_all_35 : decode cX2_all 35 = .ok (.iconst (-1), 1) := dk_2 (dk_at dksX2_all_1 12 rfl rfl)
theorem dX2_all_36 : decode cX2_all 36 = .ok (.if_icmp .eq 64, 3) := dk_159 0 64 (dk_at dksX2_all_1 13 rfl rfl)
theorem dX2_all_39 : decode cX2_all 39 = .ok (.aload_n 0, 1) := dk_42 (dk_at dksX2_all_1 16 rfl rfl)
theorem dX2_all_40 : decode cX2_all 40 = .ok (.aload_n 0, 1) := dk_42 (dk_at dksX2_all_1 17 rfl rfl)
theorem dX2_all_41 : decode cX2_all 41 = .ok (.getfield 103, 3) := dk_180 0 103 (dk_at dksX2_all_1 18 rfl rfl)
theorem dX2_all_44 : decode cX2_all 44 = .ok (.getfield 135, 3) := dk_180 0 135 (dk_at dksX2_all_1 21 rfl rfl)
theorem dX2_all_47 : decode cX2_all 47 = .ok (.bipush 70, 2) := dk_16 70 (dk_at dksX2_all_2 0 rfl rfl)
theorem dX2_all_49 : decode cX2_all 49 = .ok (.if_icmp .ne 7, 3) := dk_160 0 7 (dk_at dksX2_all_2 2 rfl rfl)
theorem dX2_all_52 : decode cX2_all 52 = .ok (.iconst 1, 1) := dk_4 (dk_at dksX2_all_2 5 rfl rfl)
theorem dX2_all_53 : decode cX2_all 53 = .ok (.goto 4, 3) := dk_167 0 4 (dk_at dksX2_all_2 6 rfl rfl)
theorem dX2_all_56 : decode cX2_all 56 = .ok (.iconst 0, 1) := dk_3 (dk_at dksX2_all_2 9 rfl rfl)
theorem dX2_all_57 : decode cX2_all 57 = .ok (.aload_n 0, 1) := dk_42 (dk_at dksX2_all_2 10 rfl rfl)
theorem dX2_all_58 : decode cX2_all 58 = .ok (.getfield 36, 3) := dk_180 0 36 (dk_at dksX2_all_2 11 rfl rfl)
theorem dX2_all_61 : decode cX2_all 61 = .ok (.invokevirtual 138, 3) := dk_182 0 138 (dk_at dksX2_all_2 14 rfl rfl)
theorem dX2_all_64 : decode cX2_all 64 = .ok (.aload_n 0, 1) := dk_42 (dk_at dksX2_all_2 17 rfl rfl)
theorem dX2_all_65 : decode cX2_all 65 = .ok (.getfield 103, 3) := dk_180 0 103 (dk_at dksX2_all_2 18 rfl rfl)
theorem dX2_all_68 : decode cX2_all 68 = .ok (.dup, 1) := dk_89 (dk_at dksX2_all_2 21 rfl rfl)
theorem dX2_all_69 : decode cX2_all 69 = .ok (.getfield 135, 3) := dk_180 0 135 (dk_at dksX2_all_3 0 rfl rfl)
theorem dX2_all_72 : decode cX2_all 72 = .ok (.iconst 1, 1) := dk_4 (dk_at dksX2_all_3 3 rfl rfl)
theorem dX2_all_73 : decode cX2_all 73 = .ok (.iadd, 1) := dk_96 (dk_at dksX2_all_3 4 rfl rfl)
theorem dX2_all_74 : decode cX2_all 74 = .ok (.putfield 135, 3) := dk_181 0 135 (dk_at dksX2_all_3 5 rfl rfl)
theorem dX2_all_77 : decode cX2_all 77 = .ok (.aload_n 0, 1) := dk_42 (dk_at dksX2_all_3 8 rfl rfl)
theorem dX2_all_78 : decode cX2_all 78 = .ok (.invokevirtual 70, 3) := dk_182 0 70 (dk_at dksX2_all_3 9 rfl rfl)
theorem dX2_all_81 : decode cX2_all 81 = .ok (.astore_n 2, 1) := dk_77 (dk_at dksX2_all_3 12 rfl rfl)
theorem dX2_all_82 : decode cX2_all 82 = .ok (.aload_n 0, 1) := dk_42 (dk_at dksX2_all_3 13 rfl rfl)
theorem dX2_all_83 : decode cX2_all 83 = .ok (.aload_n 2, 1) := dk_44 (dk_at dksX2_all_3 14 rfl rfl)
theorem dX2_all_84 : decode cX2_all 84 = .ok (.aload_n 0, 1) := dk_42 (dk_at dksX2_all_3 15 rfl rfl)
theorem dX2_all_85 : decode cX2_all 85 = .ok (.getfield 61, 3) := dk_180 0 61 (dk_at dksX2_all_3 16 rfl rfl)
theorem dX2_all_88 : decode cX2_all 88 = .ok (.invokevirtual 142, 3) := dk_182 0 142 (dk_at dksX2_all_3 19 rfl rfl)
theorem dX2_all_91 : decode cX2_all 91 = .ok (.aload_n 0, 1) := dk_42 (dk_at dksX2_all_3 22 rfl rfl)
theorem dX2_all_92 : decode cX2_all 92 = .ok (.bipush 59, 2) := dk_16 59 (dk_at dksX2_all_4 0 rfl rfl)
theorem dX2_all_94 : decode cX2_all 94 = .ok (.invokevirtual 146, 3) := dk_182 0 146 (dk_at dksX2_all_4 2 rfl rfl)
theorem dX2_all_97 : decode cX2_all 97 = .ok (.goto (-66), 3) := dk_167 255 190 (dk_at dksX2_all_4 5 rfl rfl)
theorem dX2_all_100 : decode cX2_all 100 = .ok (.aload_n 0, 1) := dk_42 (dk_at dksX2_all_4 8 rfl rfl)
theorem dX2_all_101 : decode cX2_all 101 = .ok (.getfield 103, 3) := dk_180 0 103 (dk_at dksX2_all_4 9 rfl rfl)
theorem dX2_all_104 : decode cX2_all 104 = .ok (.areturn, 1) := dk_176 (dk_at dksX2_all_4 12 rfl rfl)
abbrev cX2_here : ByteArray := prog_14_method_4_code
def yX2_here : MethodName := ⟨RX2, "here", "()I"⟩
def dkwX2_here_2 : List UInt8 := [172]
abbrev dktX2_here_2 : List UInt8 := dkwX2_here_2 ++ []
def dkwX2_here_1 : List UInt8 := [160, 0, 16, 42, 89, 180, 0, 36, 4, 96, 181, 0, 36, 167, 255, 220, 42, 42, 180, 0, 36, 182, 0, 39]
abbrev dktX2_here_1 : List UInt8 := dkwX2_here_1 ++ dktX2_here_2
def dkwX2_here_0 : List UInt8 := [42, 42, 180, 0, 36, 182, 0, 39, 16, 32, 159, 0, 16, 42, 42, 180, 0, 36, 182, 0, 39, 16, 10]
abbrev dktX2_here_0 : List UInt8 := dkwX2_here_0 ++ dktX2_here_1
theorem dksX2_here_0 : cX2_here.data.toList.drop 0 = dktX2_here_0 := by decide +kernel
theorem dksX2_here_1 : cX2_here.data.toList.drop 23 = dktX2_here_1 := dk_seg dksX2_here_0 23 rfl rfl
theorem dksX2_here_2 : cX2_here.data.toList.drop 47 = dktX2_here_2 := dk_seg dksX2_here_1 24 rfl rfl
theorem dX2_here_0 : decode cX2_here 0 = .ok (.aload_n 0, 1) := dk_42 (dk_at dksX2_here_0 0 rfl rfl)
theorem dX2_here_1 : decode cX2_here 1 = .ok (.aload_n 0, 1) := dk_42 (dk_at dksX2_here_0 1 rfl rfl)
theorem dX2_here_2 : decode cX2_here 2 = .ok (.getfield 36, 3) := dk_180 0 36 (dk_at dksX2_here_0 2 rfl rfl)
theorem dX2_here_5 : decode cX2_here 5 = .ok (.invokevirtual 39, 3) := dk_182 0 39 (dk_at dksX2_here_0 5 rfl rfl)
theorem dX2_here_8 : decode cX2_here 8 = .ok (.bipush 32, 2) := dk_16 32 (dk_at dksX2_here_0 8 rfl rfl)
theorem dX2_here_10 : decode cX2_here 10 = .ok (.if_icmp .eq 16, 3) := dk_159 0 16 (dk_at dksX2_here_0 10 rfl rfl)
theorem dX2_here_13 : decode cX2_here 13 = .ok (.aload_n 0, 1) := dk_42 (dk_at dksX2_here_0 13 rfl rfl)
theorem dX2_here_14 : decode cX2_here 14 = .ok (.aload_n 0, 1) := dk_42 (dk_at dksX2_here_0 14 rfl rfl)
theorem dX2_here_15 : decode cX2_here 15 = .ok (.getfield 36, 3) := dk_180 0 36 (dk_at dksX2_here_0 15 rfl rfl)
theorem dX2_here_18 : decode cX2_here 18 = .ok (.invokevirtual 39, 3) := dk_182 0 39 (dk_at dksX2_here_0 18 rfl rfl)
theorem dX2_here_21 : decode cX2_here 21 = .ok (.bipush 10, 2) := dk_16 10 (dk_at dksX2_here_0 21 rfl rfl)
theorem dX2_here_23 : decode cX2_here 23 = .ok (.if_icmp .ne 16, 3) := dk_160 0 16 (dk_at dksX2_here_1 0 rfl rfl)
theorem dX2_here_26 : decode cX2_here 26 = .ok (.aload_n 0, 1) := dk_42 (dk_at dksX2_here_1 3 rfl rfl)
theorem dX2_here_27 : decode cX2_here 27 = .ok (.dup, 1) := dk_89 (dk_at dksX2_here_1 4 rfl rfl)
theorem dX2_here_28 : decode cX2_here 28 = .ok (.getfield 36, 3) := dk_180 0 36 (dk_at dksX2_here_1 5 rfl rfl)
theorem dX2_here_31 : decode cX2_here 31 = .ok (.iconst 1, 1) := dk_4 (dk_at dksX2_here_1 8 rfl rfl)
theorem dX2_here_32 : decode cX2_here 32 = .ok (.iadd, 1) := dk_96 (dk_at dksX2_here_1 9 rfl rfl)
theorem dX2_here_33 : decode cX2_here 33 = .ok (.putfield 36, 3) := dk_181 0 36 (dk_at dksX2_here_1 10 rfl rfl)
theorem dX2_here_36 : decode cX2_here 36 = .ok (.goto (-36), 3) := dk_167 255 220 (dk_at dksX2_here_1 13 rfl rfl)
theorem dX2_here_39 : decode cX2_here 39 = .ok (.aload_n 0, 1) := dk_42 (dk_at dksX2_here_1 16 rfl rfl)
theorem dX2_here_40 : decode cX2_here 40 = .ok (.aload_n 0, 1) := dk_42 (dk_at dksX2_here_1 17 rfl rfl)
theorem dX2_here_41 : decode cX2_here 41 = .ok (.getfield 36, 3) := dk_180 0 36 (dk_at dksX2_here_1 18 rfl rfl)
theorem dX2_here_44 : decode cX2_here 44 = .ok (.invokevirtual 39, 3) := dk_182 0 39 (dk_at dksX2_here_1 21 rfl rfl)
theorem dX2_here_47 : decode cX2_here 47 = .ok (.ireturn, 1) := dk_172 (dk_at dksX2_here_2 0 rfl rfl)
abbrev cX2_byteAt : ByteArray := prog_14_method_3_code
def yX2_byteAt : MethodName := ⟨RX2, "byteAt", "(I)I"⟩
def dkwX2_byteAt_1 : List UInt8 := [126, 167, 0, 4, 2, 172]
abbrev dktX2_byteAt_1 : List UInt8 := dkwX2_byteAt_1 ++ []
def dkwX2_byteAt_0 : List UInt8 := [27, 155, 0, 27, 27, 42, 180, 0, 29, 162, 0, 19, 42, 180, 0, 3, 180, 0, 32, 27, 51, 17, 0, 255]
abbrev dktX2_byteAt_0 : List UInt8 := dkwX2_byteAt_0 ++ dktX2_byteAt_1
theorem dksX2_byteAt_0 : cX2_byteAt.data.toList.drop 0 = dktX2_byteAt_0 := by decide +kernel
theorem dksX2_byteAt_1 : cX2_byteAt.data.toList.drop 24 = dktX2_byteAt_1 := dk_seg dksX2_byteAt_0 24 rfl rfl
theorem dX2_byteAt_0 : decode cX2_byteAt 0 = .ok (.iload_n 1, 1) := dk_27 (dk_at dksX2_byteAt_0 0 rfl rfl)
theorem dX2_byteAt_1 : decode cX2_byteAt 1 = .ok (.ifCond .lt 27, 3) := dk_155 0 27 (dk_at dksX2_byteAt_0 1 rfl rfl)
theorem dX2_byteAt_4 : decode cX2_byteAt 4 = .ok (.iload_n 1, 1) := dk_27 (dk_at dksX2_byteAt_0 4 rfl rfl)
theorem dX2_byteAt_5 : decode cX2_byteAt 5 = .ok (.aload_n 0, 1) := dk_42 (dk_at dksX2_byteAt_0 5 rfl rfl)
theorem dX2_byteAt_6 : decode cX2_byteAt 6 = .ok (.getfield 29, 3) := dk_180 0 29 (dk_at dksX2_byteAt_0 6 rfl rfl)
theorem dX2_byteAt_9 : decode cX2_byteAt 9 = .ok (.if_icmp .ge 19, 3) := dk_162 0 19 (dk_at dksX2_byteAt_0 9 rfl rfl)
theorem dX2_byteAt_12 : decode cX2_byteAt 12 = .ok (.aload_n 0, 1) := dk_42 (dk_at dksX2_byteAt_0 12 rfl rfl)
theorem dX2_byteAt_13 : decode cX2_byteAt 13 = .ok (.getfield 3, 3) := dk_180 0 3 (dk_at dksX2_byteAt_0 13 rfl rfl)
theorem dX2_byteAt_16 : decode cX2_byteAt 16 = .ok (.getfield 32, 3) := dk_180 0 32 (dk_at dksX2_byteAt_0 16 rfl rfl)
theorem dX2_byteAt_19 : decode cX2_byteAt 19 = .ok (.iload_n 1, 1) := dk_27 (dk_at dksX2_byteAt_0 19 rfl rfl)
theorem dX2_byteAt_20 : decode cX2_byteAt 20 = .ok (.baload, 1) := dk_51 (dk_at dksX2_byteAt_0 20 rfl rfl)
theorem dX2_byteAt_21 : decode cX2_byteAt 21 = .ok (.sipush 255, 3) := dk_17 0 255 (dk_at dksX2_byteAt_0 21 rfl rfl)
theorem dX2_byteAt_24 : decode cX2_byteAt 24 = .ok (.iand, 1) := dk_126 (dk_at dksX2_byteAt_1 0 rfl rfl)
theorem dX2_byteAt_25 : decode cX2_byteAt 25 = .ok (.goto 4, 3) := dk_167 0 4 (dk_at dksX2_byteAt_1 1 rfl rfl)
theorem dX2_byteAt_28 : decode cX2_byteAt 28 = .ok (.iconst (-1), 1) := dk_2 (dk_at dksX2_byteAt_1 4 rfl rfl)
theorem dX2_byteAt_29 : decode cX2_byteAt 29 = .ok (.ireturn, 1) := dk_172 (dk_at dksX2_byteAt_1 5 rfl rfl)
abbrev cX2_most : ByteArray := prog_14_method_16_code
def yX2_most : MethodName := ⟨RX2, "most", "(ZI)V"⟩
def dkwX2_most_0 : List UInt8 := [27, 153, 0, 10, 42, 8, 28, 182, 0, 47, 191, 177]
abbrev dktX2_most_0 : List UInt8 := dkwX2_most_0 ++ []
theorem dksX2_most_0 : cX2_most.data.toList.drop 0 = dktX2_most_0 := by decide +kernel
theorem dX2_most_0 : decode cX2_most 0 = .ok (.iload_n 1, 1) := dk_27 (dk_at dksX2_most_0 0 rfl rfl)
theorem dX2_most_1 : decode cX2_most 1 = .ok (.ifCond .eq 10, 3) := dk_153 0 10 (dk_at dksX2_most_0 1 rfl rfl)
theorem dX2_most_4 : decode cX2_most 4 = .ok (.aload_n 0, 1) := dk_42 (dk_at dksX2_most_0 4 rfl rfl)
theorem dX2_most_5 : decode cX2_most 5 = .ok (.iconst 5, 1) := dk_8 (dk_at dksX2_most_0 5 rfl rfl)
theorem dX2_most_6 : decode cX2_most 6 = .ok (.iload_n 2, 1) := dk_28 (dk_at dksX2_most_0 6 rfl rfl)
theorem dX2_most_7 : decode cX2_most 7 = .ok (.invokevirtual 47, 3) := dk_182 0 47 (dk_at dksX2_most_0 7 rfl rfl)
theorem dX2_most_10 : decode cX2_most 10 = .ok (.athrow, 1) := dk_191 (dk_at dksX2_most_0 10 rfl rfl)
theorem dX2_most_11 : decode cX2_most 11 = .ok (.return_, 1) := dk_177 (dk_at dksX2_most_0 11 rfl rfl)
abbrev cX2_wrong : ByteArray := prog_14_method_2_code
def yX2_wrong : MethodName := ⟨RX2, "wrong", "(II)LBreathTown$Fault;"⟩
def dkwX2_wrong_0 : List UInt8 := [42, 180, 0, 18, 27, 181, 0, 22, 42, 180, 0, 18, 28, 181, 0, 26, 42, 180, 0, 18, 176]
abbrev dktX2_wrong_0 : List UInt8 := dkwX2_wrong_0 ++ []
theorem dksX2_wrong_0 : cX2_wrong.data.toList.drop 0 = dktX2_wrong_0 := by decide +kernel
theorem dX2_wrong_0 : decode cX2_wrong 0 = .ok (.aload_n 0, 1) := dk_42 (dk_at dksX2_wrong_0 0 rfl rfl)
theorem dX2_wrong_1 : decode cX2_wrong 1 = .ok (.getfield 18, 3) := dk_180 0 18 (dk_at dksX2_wrong_0 1 rfl rfl)
theorem dX2_wrong_4 : decode cX2_wrong 4 = .ok (.iload_n 1, 1) := dk_27 (dk_at dksX2_wrong_0 4 rfl rfl)
theorem dX2_wrong_5 : decode cX2_wrong 5 = .ok (.putfield 22, 3) := dk_181 0 22 (dk_at dksX2_wrong_0 5 rfl rfl)
theorem dX2_wrong_8 : decode cX2_wrong 8 = .ok (.aload_n 0, 1) := dk_42 (dk_at dksX2_wrong_0 8 rfl rfl)
theorem dX2_wrong_9 : decode cX2_wrong 9 = .ok (.getfield 18, 3) := dk_180 0 18 (dk_at dksX2_wrong_0 9 rfl rfl)
theorem dX2_wrong_12 : decode cX2_wrong 12 = .ok (.iload_n 2, 1) := dk_28 (dk_at dksX2_wrong_0 12 rfl rfl)
theorem dX2_wrong_13 : decode cX2_wrong 13 = .ok (.putfield 26, 3) := dk_181 0 26 (dk_at dksX2_wrong_0 13 rfl rfl)
theorem dX2_wrong_16 : decode cX2_wrong 16 = .ok (.aload_n 0, 1) := dk_42 (dk_at dksX2_wrong_0 16 rfl rfl)
theorem dX2_wrong_17 : decode cX2_wrong 17 = .ok (.getfield 18, 3) := dk_180 0 18 (dk_at dksX2_wrong_0 17 rfl rfl)
theorem dX2_wrong_20 : decode cX2_wrong 20 = .ok (.areturn, 1) := dk_176 (dk_at dksX2_wrong_0 20 rfl rfl)
abbrev cX2_word : ByteArray := prog_14_method_7_code
def yX2_word : MethodName := ⟨RX2, "word", "()Ljava/lang/String;"⟩
def dkwX2_word_4 : List UInt8 := [180, 0, 32, 28, 51, 146, 85, 132, 2, 1, 167, 255, 227, 43, 184, 0, 64, 176]
abbrev dktX2_word_4 : List UInt8 := dkwX2_word_4 ++ []
def dkwX2_word_3 : List UInt8 := [180, 0, 61, 61, 28, 42, 180, 0, 36, 162, 0, 27, 43, 28, 42, 180, 0, 61, 100, 42, 180, 0, 3]
abbrev dktX2_word_3 : List UInt8 := dkwX2_word_3 ++ dktX2_word_4
def dkwX2_word_2 : List UInt8 := [180, 0, 36, 4, 96, 181, 0, 36, 167, 255, 232, 42, 180, 0, 36, 42, 180, 0, 61, 100, 188, 5, 76, 42]
abbrev dktX2_word_2 : List UInt8 := dkwX2_word_2 ++ dktX2_word_3
def dkwX2_word_1 : List UInt8 := [42, 42, 180, 0, 36, 181, 0, 61, 42, 42, 180, 0, 36, 182, 0, 39, 184, 0, 51, 153, 0, 16, 42, 89]
abbrev dktX2_word_1 : List UInt8 := dkwX2_word_1 ++ dktX2_word_2
def dkwX2_word_0 : List UInt8 := [42, 182, 0, 43, 184, 0, 51, 154, 0, 13, 42, 4, 42, 180, 0, 36, 182, 0, 47, 191, 42, 182, 0, 58]
abbrev dktX2_word_0 : List UInt8 := dkwX2_word_0 ++ dktX2_word_1
theorem dksX2_word_0 : cX2_word.data.toList.drop 0 = dktX2_word_0 := by decide +kernel
theorem dksX2_word_1 : cX2_word.data.toList.drop 24 = dktX2_word_1 := dk_seg dksX2_word_0 24 rfl rfl
theorem dksX2_word_2 : cX2_word.data.toList.drop 48 = dktX2_word_2 := dk_seg dksX2_word_1 24 rfl rfl
theorem dksX2_word_3 : cX2_word.data.toList.drop 72 = dktX2_word_3 := dk_seg dksX2_word_2 24 rfl rfl
theorem dksX2_word_4 : cX2_word.data.toList.drop 95 = dktX2_word_4 := dk_seg dksX2_word_3 23 rfl rfl
theorem dX2_word_0 : decode cX2_word 0 = .ok (.aload_n 0, 1) := dk_42 (dk_at dksX2_word_0 0 rfl rfl)
theorem dX2_word_1 : decode cX2_word 1 = .ok (.invokevirtual 43, 3) := dk_182 0 43 (dk_at dksX2_word_0 1 rfl rfl)
theorem dX2_word_4 : decode cX2_word 4 = .ok (.invokestatic 51, 3) := dk_184 0 51 (dk_at dksX2_word_0 4 rfl rfl)
theorem dX2_word_7 : decode cX2_word 7 = .ok (.ifCond .ne 13, 3) := dk_154 0 13 (dk_at dksX2_word_0 7 rfl rfl)
theorem dX2_word_10 : decode cX2_word 10 = .ok (.aload_n 0, 1) := dk_42 (dk_at dksX2_word_0 10 rfl rfl)
theorem dX2_word_11 : decode cX2_word 11 = .ok (.iconst 1, 1) := dk_4 (dk_at dksX2_word_0 11 rfl rfl)
theorem dX2_word_12 : decode cX2_word 12 = .ok (.aload_n 0, 1) := dk_42 (dk_at dksX2_word_0 12 rfl rfl)
theorem dX2_word_13 : decode cX2_word 13 = .ok (.getfield 36, 3) := dk_180 0 36 (dk_at dksX2_word_0 13 rfl rfl)
theorem dX2_word_16 : decode cX2_word 16 = .ok (.invokevirtual 47, 3) := dk_182 0 47 (dk_at dksX2_word_0 16 rfl rfl)
theorem dX2_word_19 : decode cX2_word 19 = .ok (.athrow, 1) := dk_191 (dk_at dksX2_word_0 19 rfl rfl)
theorem dX2_word_20 : decode cX2_word 20 = .ok (.aload_n 0, 1) := dk_42 (dk_at dksX2_word_0 20 rfl rfl)
theorem dX2_word_21 : decode cX2_word 21 = .ok (.invokevirtual 58, 3) := dk_182 0 58 (dk_at dksX2_word_0 21 rfl rfl)
theorem dX2_word_24 : decode cX2_word 24 = .ok (.aload_n 0, 1) := dk_42 (dk_at dksX2_word_1 0 rfl rfl)
theorem dX2_word_25 : decode cX2_word 25 = .ok (.aload_n 0, 1) := dk_42 (dk_at dksX2_word_1 1 rfl rfl)
theorem dX2_word_26 : decode cX2_word 26 = .ok (.getfield 36, 3) := dk_180 0 36 (dk_at dksX2_word_1 2 rfl rfl)
theorem dX2_word_29 : decode cX2_word 29 = .ok (.putfield 61, 3) := dk_181 0 61 (dk_at dksX2_word_1 5 rfl rfl)
theorem dX2_word_32 : decode cX2_word 32 = .ok (.aload_n 0, 1) := dk_42 (dk_at dksX2_word_1 8 rfl rfl)
theorem dX2_word_33 : decode cX2_word 33 = .ok (.aload_n 0, 1) := dk_42 (dk_at dksX2_word_1 9 rfl rfl)
theorem dX2_word_34 : decode cX2_word 34 = .ok (.getfield 36, 3) := dk_180 0 36 (dk_at dksX2_word_1 10 rfl rfl)
theorem dX2_word_37 : decode cX2_word 37 = .ok (.invokevirtual 39, 3) := dk_182 0 39 (dk_at dksX2_word_1 13 rfl rfl)
theorem dX2_word_40 : decode cX2_word 40 = .ok (.invokestatic 51, 3) := dk_184 0 51 (dk_at dksX2_word_1 16 rfl rfl)
theorem dX2_word_43 : decode cX2_word 43 = .ok (.ifCond .eq 16, 3) := dk_153 0 16 (dk_at dksX2_word_1 19 rfl rfl)
theorem dX2_word_46 : decode cX2_word 46 = .ok (.aload_n 0, 1) := dk_42 (dk_at dksX2_word_1 22 rfl rfl)
theorem dX2_word_47 : decode cX2_word 47 = .ok (.dup, 1) := dk_89 (dk_at dksX2_word_1 23 rfl rfl)
theorem dX2_word_48 : decode cX2_word 48 = .ok (.getfield 36, 3) := dk_180 0 36 (dk_at dksX2_word_2 0 rfl rfl)
theorem dX2_word_51 : decode cX2_word 51 = .ok (.iconst 1, 1) := dk_4 (dk_at dksX2_word_2 3 rfl rfl)
theorem dX2_word_52 : decode cX2_word 52 = .ok (.iadd, 1) := dk_96 (dk_at dksX2_word_2 4 rfl rfl)
theorem dX2_word_53 : decode cX2_word 53 = .ok (.putfield 36, 3) := dk_181 0 36 (dk_at dksX2_word_2 5 rfl rfl)
theorem dX2_word_56 : decode cX2_word 56 = .ok (.goto (-24), 3) := dk_167 255 232 (dk_at dksX2_word_2 8 rfl rfl)
theorem dX2_word_59 : decode cX2_word 59 = .ok (.aload_n 0, 1) := dk_42 (dk_at dksX2_word_2 11 rfl rfl)
theorem dX2_word_60 : decode cX2_word 60 = .ok (.getfield 36, 3) := dk_180 0 36 (dk_at dksX2_word_2 12 rfl rfl)
theorem dX2_word_63 : decode cX2_word 63 = .ok (.aload_n 0, 1) := dk_42 (dk_at dksX2_word_2 15 rfl rfl)
theorem dX2_word_64 : decode cX2_word 64 = .ok (.getfield 61, 3) := dk_180 0 61 (dk_at dksX2_word_2 16 rfl rfl)
theorem dX2_word_67 : decode cX2_word 67 = .ok (.isub, 1) := dk_100 (dk_at dksX2_word_2 19 rfl rfl)
theorem dX2_word_68 : decode cX2_word 68 = .ok (.newarray .char, 2) := dk_188_5 (dk_at dksX2_word_2 20 rfl rfl)
theorem dX2_word_70 : decode cX2_word 70 = .ok (.astore_n 1, 1) := dk_76 (dk_at dksX2_word_2 22 rfl rfl)
theorem dX2_word_71 : decode cX2_word 71 = .ok (.aload_n 0, 1) := dk_42 (dk_at dksX2_word_2 23 rfl rfl)
theorem dX2_word_72 : decode cX2_word 72 = .ok (.getfield 61, 3) := dk_180 0 61 (dk_at dksX2_word_3 0 rfl rfl)
theorem dX2_word_75 : decode cX2_word 75 = .ok (.istore_n 2, 1) := dk_61 (dk_at dksX2_word_3 3 rfl rfl)
theorem dX2_word_76 : decode cX2_word 76 = .ok (.iload_n 2, 1) := dk_28 (dk_at dksX2_word_3 4 rfl rfl)
theorem dX2_word_77 : decode cX2_word 77 = .ok (.aload_n 0, 1) := dk_42 (dk_at dksX2_word_3 5 rfl rfl)
theorem dX2_word_78 : decode cX2_word 78 = .ok (.getfield 36, 3) := dk_180 0 36 (dk_at dksX2_word_3 6 rfl rfl)
theorem dX2_word_81 : decode cX2_word 81 = .ok (.if_icmp .ge 27, 3) := dk_162 0 27 (dk_at dksX2_word_3 9 rfl rfl)
theorem dX2_word_84 : decode cX2_word 84 = .ok (.aload_n 1, 1) := dk_43 (dk_at dksX2_word_3 12 rfl rfl)
theorem dX2_word_85 : decode cX2_word 85 = .ok (.iload_n 2, 1) := dk_28 (dk_at dksX2_word_3 13 rfl rfl)
theorem dX2_word_86 : decode cX2_word 86 = .ok (.aload_n 0, 1) := dk_42 (dk_at dksX2_word_3 14 rfl rfl)
theorem dX2_word_87 : decode cX2_word 87 = .ok (.getfield 61, 3) := dk_180 0 61 (dk_at dksX2_word_3 15 rfl rfl)
theorem dX2_word_90 : decode cX2_word 90 = .ok (.isub, 1) := dk_100 (dk_at dksX2_word_3 18 rfl rfl)
theorem dX2_word_91 : decode cX2_word 91 = .ok (.aload_n 0, 1) := dk_42 (dk_at dksX2_word_3 19 rfl rfl)
theorem dX2_word_92 : decode cX2_word 92 = .ok (.getfield 3, 3) := dk_180 0 3 (dk_at dksX2_word_3 20 rfl rfl)
theorem dX2_word_95 : decode cX2_word 95 = .ok (.getfield 32, 3) := dk_180 0 32 (dk_at dksX2_word_4 0 rfl rfl)
theorem dX2_word_98 : decode cX2_word 98 = .ok (.iload_n 2, 1) := dk_28 (dk_at dksX2_word_4 3 rfl rfl)
theorem dX2_word_99 : decode cX2_word 99 = .ok (.baload, 1) := dk_51 (dk_at dksX2_word_4 4 rfl rfl)
theorem dX2_word_100 : decode cX2_word 100 = .ok (.i2c, 1) := dk_146 (dk_at dksX2_word_4 5 rfl rfl)
theorem dX2_word_101 : decode cX2_word 101 = .ok (.castore, 1) := dk_85 (dk_at dksX2_word_4 6 rfl rfl)
theorem dX2_word_102 : decode cX2_word 102 = .ok (.iinc 2 1, 3) := dk_132 2 1 (dk_at dksX2_word_4 7 rfl rfl)
theorem dX2_word_105 : decode cX2_word 105 = .ok (.goto (-29), 3) := dk_167 255 227 (dk_at dksX2_word_4 10 rfl rfl)
theorem dX2_word_108 : decode cX2_word 108 = .ok (.aload_n 1, 1) := dk_43 (dk_at dksX2_word_4 13 rfl rfl)
theorem dX2_word_109 : decode cX2_word 109 = .ok (.invokestatic 64, 3) := dk_184 0 64 (dk_at dksX2_word_4 14 rfl rfl)
theorem dX2_word_112 : decode cX2_word 112 = .ok (.areturn, 1) := dk_176 (dk_at dksX2_word_4 17 rfl rfl)
abbrev cX2_parted : ByteArray := prog_14_method_6_code
def yX2_parted : MethodName := ⟨RX2, "parted", "()V"⟩
def dkwX2_parted_1 : List UInt8 := [182, 0, 39, 184, 0, 55, 153, 0, 13, 42, 4, 42, 180, 0, 36, 182, 0, 47, 191, 177]
abbrev dktX2_parted_1 : List UInt8 := dkwX2_parted_1 ++ []
def dkwX2_parted_0 : List UInt8 := [42, 42, 180, 0, 36, 4, 100, 182, 0, 39, 184, 0, 51, 154, 0, 19, 42, 42, 180, 0, 36, 4, 100]
abbrev dktX2_parted_0 : List UInt8 := dkwX2_parted_0 ++ dktX2_parted_1
theorem dksX2_parted_0 : cX2_parted.data.toList.drop 0 = dktX2_parted_0 := by decide +kernel
theorem dksX2_parted_1 : cX2_parted.data.toList.drop 23 = dktX2_parted_1 := dk_seg dksX2_parted_0 23 rfl rfl
theorem dX2_parted_0 : decode cX2_parted 0 = .ok (.aload_n 0, 1) := dk_42 (dk_at dksX2_parted_0 0 rfl rfl)
theorem dX2_parted_1 : decode cX2_parted 1 = .ok (.aload_n 0, 1) := dk_42 (dk_at dksX2_parted_0 1 rfl rfl)
theorem dX2_parted_2 : decode cX2_parted 2 = .ok (.getfield 36, 3) := dk_180 0 36 (dk_at dksX2_parted_0 2 rfl rfl)
theorem dX2_parted_5 : decode cX2_parted 5 = .ok (.iconst 1, 1) := dk_4 (dk_at dksX2_parted_0 5 rfl rfl)
theorem dX2_parted_6 : decode cX2_parted 6 = .ok (.isub, 1) := dk_100 (dk_at dksX2_parted_0 6 rfl rfl)
theorem dX2_parted_7 : decode cX2_parted 7 = .ok (.invokevirtual 39, 3) := dk_182 0 39 (dk_at dksX2_parted_0 7 rfl rfl)
theorem dX2_parted_10 : decode cX2_parted 10 = .ok (.invokestatic 51, 3) := dk_184 0 51 (dk_at dksX2_parted_0 10 rfl rfl)
theorem dX2_parted_13 : decode cX2_parted 13 = .ok (.ifCond .ne 19, 3) := dk_154 0 19 (dk_at dksX2_parted_0 13 rfl rfl)
theorem dX2_parted_16 : decode cX2_parted 16 = .ok (.aload_n 0, 1) := dk_42 (dk_at dksX2_parted_0 16 rfl rfl)
theorem dX2_parted_17 : decode cX2_parted 17 = .ok (.aload_n 0, 1) := dk_42 (dk_at dksX2_parted_0 17 rfl rfl)
theorem dX2_parted_18 : decode cX2_parted 18 = .ok (.getfield 36, 3) := dk_180 0 36 (dk_at dksX2_parted_0 18 rfl rfl)
theorem dX2_parted_21 : decode cX2_parted 21 = .ok (.iconst 1, 1) := dk_4 (dk_at dksX2_parted_0 21 rfl rfl)
theorem dX2_parted_22 : decode cX2_parted 22 = .ok (.isub, 1) := dk_100 (dk_at dksX2_parted_0 22 rfl rfl)
theorem dX2_parted_23 : decode cX2_parted 23 = .ok (.invokevirtual 39, 3) := dk_182 0 39 (dk_at dksX2_parted_1 0 rfl rfl)
theorem dX2_parted_26 : decode cX2_parted 26 = .ok (.invokestatic 55, 3) := dk_184 0 55 (dk_at dksX2_parted_1 3 rfl rfl)
theorem dX2_parted_29 : decode cX2_parted 29 = .ok (.ifCond .eq 13, 3) := dk_153 0 13 (dk_at dksX2_parted_1 6 rfl rfl)
theorem dX2_parted_32 : decode cX2_parted 32 = .ok (.aload_n 0, 1) := dk_42 (dk_at dksX2_parted_1 9 rfl rfl)
theorem dX2_parted_33 : decode cX2_parted 33 = .ok (.iconst 1, 1) := dk_4 (dk_at dksX2_parted_1 10 rfl rfl)
theorem dX2_parted_34 : decode cX2_parted 34 = .ok (.aload_n 0, 1) := dk_42 (dk_at dksX2_parted_1 11 rfl rfl)
theorem dX2_parted_35 : decode cX2_parted 35 = .ok (.getfield 36, 3) := dk_180 0 36 (dk_at dksX2_parted_1 12 rfl rfl)
theorem dX2_parted_38 : decode cX2_parted 38 = .ok (.invokevirtual 47, 3) := dk_182 0 47 (dk_at dksX2_parted_1 15 rfl rfl)
theorem dX2_parted_41 : decode cX2_parted 41 = .ok (.athrow, 1) := dk_191 (dk_at dksX2_parted_1 18 rfl rfl)
theorem dX2_parted_42 : decode cX2_parted 42 = .ok (.return_, 1) := dk_177 (dk_at dksX2_parted_1 19 rfl rfl)
abbrev cX2_told : ByteArray := prog_14_method_18_code
def yX2_told : MethodName := ⟨RX2, "told", "(Ljava/lang/String;I)V"⟩
def dkwX2_told_14 : List UInt8 := [182, 0, 96, 181, 0, 190, 167, 0, 10, 42, 4, 28, 182, 0, 47, 191, 177]
abbrev dktX2_told_14 : List UInt8 := dkwX2_told_14 ++ []
def dkwX2_told_13 : List UInt8 := [182, 0, 183, 183, 0, 187, 185, 0, 169, 2, 0, 87, 167, 0, 28, 42, 180, 0, 103, 42, 3, 17, 3, 231]
abbrev dktX2_told_13 : List UInt8 := dkwX2_told_13 ++ dktX2_told_14
def dkwX2_told_12 : List UInt8 := [42, 180, 0, 103, 180, 0, 121, 187, 0, 180, 89, 25, 5, 21, 6, 21, 7, 42, 18, 182, 21, 7]
abbrev dktX2_told_12 : List UInt8 := dkwX2_told_12 ++ dktX2_told_13
def dkwX2_told_11 : List UInt8 := [182, 0, 164, 58, 5, 42, 18, 174, 4, 16, 99, 182, 0, 176, 54, 6, 42, 18, 179, 182, 0, 124, 54, 7]
abbrev dktX2_told_11 : List UInt8 := dkwX2_told_11 ++ dktX2_told_12
def dkwX2_told_10 : List UInt8 := [180, 0, 121, 185, 0, 160, 1, 0, 16, 6, 160, 0, 7, 4, 167, 0, 4, 3, 28, 182, 0, 138, 42]
abbrev dktX2_told_10 : List UInt8 := dkwX2_told_10 ++ dktX2_told_11
def dkwX2_told_9 : List UInt8 := [160, 0, 7, 4, 167, 0, 4, 3, 28, 182, 0, 138, 42, 182, 0, 172, 167, 0, 117, 42, 42, 180, 0, 103]
abbrev dktX2_told_9 : List UInt8 := dkwX2_told_9 ++ dktX2_told_10
def dkwX2_told_8 : List UInt8 := [185, 0, 169, 2, 0, 87, 167, 0, 151, 42, 42, 180, 0, 103, 180, 0, 118, 185, 0, 160, 1, 0, 16, 12]
abbrev dktX2_told_8 : List UInt8 := dkwX2_told_8 ++ dktX2_told_9
def dkwX2_told_7 : List UInt8 := [182, 0, 138, 42, 180, 0, 103, 180, 0, 107, 187, 0, 114, 89, 42, 182, 0, 164, 183, 0, 167]
abbrev dktX2_told_7 : List UInt8 := dkwX2_told_7 ++ dktX2_told_8
def dkwX2_told_6 : List UInt8 := [42, 42, 180, 0, 103, 180, 0, 107, 185, 0, 160, 1, 0, 16, 9, 160, 0, 7, 4, 167, 0, 4, 3, 28]
abbrev dktX2_told_6 : List UInt8 := dkwX2_told_6 ++ dktX2_told_7
def dkwX2_told_5 : List UInt8 := [170, 0, 0, 0, 224, 0, 0, 0, 0, 0, 0, 0, 3, 0, 0, 0, 29, 0, 0, 0, 83, 0, 0, 0, 117, 0, 0, 0, 206]
abbrev dktX2_told_5 : List UInt8 := dkwX2_told_5 ++ dktX2_told_6
def dkwX2_told_4 : List UInt8 := [182, 0, 74, 153, 0, 6, 6, 54, 4, 21, 4]
abbrev dktX2_told_4 : List UInt8 := dkwX2_told_4 ++ dktX2_told_5
def dkwX2_told_3 : List UInt8 := [4, 54, 4, 167, 0, 30, 45, 18, 156, 182, 0, 74, 153, 0, 21, 5, 54, 4, 167, 0, 15, 45, 18, 158]
abbrev dktX2_told_3 : List UInt8 := dkwX2_told_3 ++ dktX2_told_4
def dkwX2_told_2 : List UInt8 := [45, 18, 153, 182, 0, 74, 153, 0, 51, 3, 54, 4, 167, 0, 45, 45, 18, 154, 182, 0, 74, 153, 0, 36]
abbrev dktX2_told_2 : List UInt8 := dkwX2_told_2 ++ dktX2_told_3
def dkwX2_told_1 : List UInt8 := [171, 0, 0, 0, 0, 0, 100, 0, 0, 0, 4, 202, 213, 80, 3, 0, 0, 0, 58, 208, 154, 80, 54, 0, 0, 0, 73, 5, 148, 120, 169, 0, 0, 0, 88, 6, 92, 217, 7, 0, 0, 0, 43]
abbrev dktX2_told_1 : List UInt8 := dkwX2_told_1 ++ dktX2_told_2
def dkwX2_told_0 : List UInt8 := [43, 78, 2, 54, 4, 45, 182, 0, 150]
abbrev dktX2_told_0 : List UInt8 := dkwX2_told_0 ++ dktX2_told_1
theorem dksX2_told_0 : cX2_told.data.toList.drop 0 = dktX2_told_0 := by decide +kernel
theorem dksX2_told_1 : cX2_told.data.toList.drop 9 = dktX2_told_1 := dk_seg dksX2_told_0 9 rfl rfl
theorem dksX2_told_2 : cX2_told.data.toList.drop 52 = dktX2_told_2 := dk_seg dksX2_told_1 43 rfl rfl
theorem dksX2_told_3 : cX2_told.data.toList.drop 76 = dktX2_told_3 := dk_seg dksX2_told_2 24 rfl rfl
theorem dksX2_told_4 : cX2_told.data.toList.drop 100 = dktX2_told_4 := dk_seg dksX2_told_3 24 rfl rfl
theorem dksX2_told_5 : cX2_told.data.toList.drop 111 = dktX2_told_5 := dk_seg dksX2_told_4 11 rfl rfl
theorem dksX2_told_6 : cX2_told.data.toList.drop 140 = dktX2_told_6 := dk_seg dksX2_told_5 29 rfl rfl
theorem dksX2_told_7 : cX2_told.data.toList.drop 164 = dktX2_told_7 := dk_seg dksX2_told_6 24 rfl rfl
theorem dksX2_told_8 : cX2_told.data.toList.drop 185 = dktX2_told_8 := dk_seg dksX2_told_7 21 rfl rfl
theorem dksX2_told_9 : cX2_told.data.toList.drop 209 = dktX2_told_9 := dk_seg dksX2_told_8 24 rfl rfl
theorem dksX2_told_10 : cX2_told.data.toList.drop 233 = dktX2_told_10 := dk_seg dksX2_told_9 24 rfl rfl
theorem dksX2_told_11 : cX2_told.data.toList.drop 256 = dktX2_told_11 := dk_seg dksX2_told_10 23 rfl rfl
theorem dksX2_told_12 : cX2_told.data.toList.drop 280 = dktX2_told_12 := dk_seg dksX2_told_11 24 rfl rfl
theorem dksX2_told_13 : cX2_told.data.toList.drop 302 = dktX2_told_13 := dk_seg dksX2_told_12 22 rfl rfl
theorem dksX2_told_14 : cX2_told.data.toList.drop 326 = dktX2_told_14 := dk_seg dksX2_told_13 24 rfl rfl
theorem dX2_told_0 : decode cX2_told 0 = .ok (.aload_n 1, 1) := dk_43 (dk_at dksX2_told_0 0 rfl rfl)
theorem dX2_told_1 : decode cX2_told 1 = .ok (.astore_n 3, 1) := dk_78 (dk_at dksX2_told_0 1 rfl rfl)
theorem dX2_told_2 : decode cX2_told 2 = .ok (.iconst (-1), 1) := dk_2 (dk_at dksX2_told_0 2 rfl rfl)
theorem dX2_told_3 : decode cX2_told 3 = .ok (.istore 4, 2) := dk_54 4 (dk_at dksX2_told_0 3 rfl rfl)
theorem dX2_told_5 : decode cX2_told 5 = .ok (.aload_n 3, 1) := dk_45 (dk_at dksX2_told_0 5 rfl rfl)
theorem dX2_told_6 : decode cX2_told 6 = .ok (.invokevirtual 150, 3) := dk_182 0 150 (dk_at dksX2_told_0 6 rfl rfl)
theorem dX2_told_9 : decode cX2_told 9 = .ok (.lookupswitch 100 #[(-891990013, 58), (-795193290, 73), (93616297, 88), (106748167, 43)], 43) := by decide +kernel
theorem dX2_told_52 : decode cX2_told 52 = .ok (.aload_n 3, 1) := dk_45 (dk_at dksX2_told_2 0 rfl rfl)
theorem dX2_told_53 : decode cX2_told 53 = .ok (.ldc 153, 2) := dk_18 153 (dk_at dksX2_told_2 1 rfl rfl)
theorem dX2_told_55 : decode cX2_told 55 = .ok (.invokevirtual 74, 3) := dk_182 0 74 (dk_at dksX2_told_2 3 rfl rfl)
theorem dX2_told_58 : decode cX2_told 58 = .ok (.ifCond .eq 51, 3) := dk_153 0 51 (dk_at dksX2_told_2 6 rfl rfl)
theorem dX2_told_61 : decode cX2_told 61 = .ok (.iconst 0, 1) := dk_3 (dk_at dksX2_told_2 9 rfl rfl)
theorem dX2_told_62 : decode cX2_told 62 = .ok (.istore 4, 2) := dk_54 4 (dk_at dksX2_told_2 10 rfl rfl)
theorem dX2_told_64 : decode cX2_told 64 = .ok (.goto 45, 3) := dk_167 0 45 (dk_at dksX2_told_2 12 rfl rfl)
theorem dX2_told_67 : decode cX2_told 67 = .ok (.aload_n 3, 1) := dk_45 (dk_at dksX2_told_2 15 rfl rfl)
theorem dX2_told_68 : decode cX2_told 68 = .ok (.ldc 154, 2) := dk_18 154 (dk_at dksX2_told_2 16 rfl rfl)
theorem dX2_told_70 : decode cX2_told 70 = .ok (.invokevirtual 74, 3) := dk_182 0 74 (dk_at dksX2_told_2 18 rfl rfl)
theorem dX2_told_73 : decode cX2_told 73 = .ok (.ifCond .eq 36, 3) := dk_153 0 36 (dk_at dksX2_told_2 21 rfl rfl)
theorem dX2_told_76 : decode cX2_told 76 = .ok (.iconst 1, 1) := dk_4 (dk_at dksX2_told_3 0 rfl rfl)
theorem dX2_told_77 : decode cX2_told 77 = .ok (.istore 4, 2) := dk_54 4 (dk_at dksX2_told_3 1 rfl rfl)
theorem dX2_told_79 : decode cX2_told 79 = .ok (.goto 30, 3) := dk_167 0 30 (dk_at dksX2_told_3 3 rfl rfl)
theorem dX2_told_82 : decode cX2_told 82 = .ok (.aload_n 3, 1) := dk_45 (dk_at dksX2_told_3 6 rfl rfl)
theorem dX2_told_83 : decode cX2_told 83 = .ok (.ldc 156, 2) := dk_18 156 (dk_at dksX2_told_3 7 rfl rfl)
theorem dX2_told_85 : decode cX2_told 85 = .ok (.invokevirtual 74, 3) := dk_182 0 74 (dk_at dksX2_told_3 9 rfl rfl)
theorem dX2_told_88 : decode cX2_told 88 = .ok (.ifCond .eq 21, 3) := dk_153 0 21 (dk_at dksX2_told_3 12 rfl rfl)
theorem dX2_told_91 : decode cX2_told 91 = .ok (.iconst 2, 1) := dk_5 (dk_at dksX2_told_3 15 rfl rfl)
theorem dX2_told_92 : decode cX2_told 92 = .ok (.istore 4, 2) := dk_54 4 (dk_at dksX2_told_3 16 rfl rfl)
theorem dX2_told_94 : decode cX2_told 94 = .ok (.goto 15, 3) := dk_167 0 15 (dk_at dksX2_told_3 18 rfl rfl)
theorem dX2_told_97 : decode cX2_told 97 = .ok (.aload_n 3, 1) := dk_45 (dk_at dksX2_told_3 21 rfl rfl)
theorem dX2_told_98 : decode cX2_told 98 = .ok (.ldc 158, 2) := dk_18 158 (dk_at dksX2_told_3 22 rfl rfl)
theorem dX2_told_100 : decode cX2_told 100 = .ok (.invokevirtual 74, 3) := dk_182 0 74 (dk_at dksX2_told_4 0 rfl rfl)
theorem dX2_told_103 : decode cX2_told 103 = .ok (.ifCond .eq 6, 3) := dk_153 0 6 (dk_at dksX2_told_4 3 rfl rfl)
theorem dX2_told_106 : decode cX2_told 106 = .ok (.iconst 3, 1) := dk_6 (dk_at dksX2_told_4 6 rfl rfl)
theorem dX2_told_107 : decode cX2_told 107 = .ok (.istore 4, 2) := dk_54 4 (dk_at dksX2_told_4 7 rfl rfl)
theorem dX2_told_109 : decode cX2_told 109 = .ok (.iload 4, 2) := dk_21 4 (dk_at dksX2_told_4 9 rfl rfl)
theorem dX2_told_111 : decode cX2_told 111 = .ok (.tableswitch 224 0 3 #[29, 83, 117, 206], 29) := by decide +kernel
theorem dX2_told_140 : decode cX2_told 140 = .ok (.aload_n 0, 1) := dk_42 (dk_at dksX2_told_6 0 rfl rfl)
theorem dX2_told_141 : decode cX2_told 141 = .ok (.aload_n 0, 1) := dk_42 (dk_at dksX2_told_6 1 rfl rfl)
theorem dX2_told_142 : decode cX2_told 142 = .ok (.getfield 103, 3) := dk_180 0 103 (dk_at dksX2_told_6 2 rfl rfl)
theorem dX2_told_145 : decode cX2_told 145 = .ok (.getfield 107, 3) := dk_180 0 107 (dk_at dksX2_told_6 5 rfl rfl)
theorem dX2_told_148 : decode cX2_told 148 = .ok (.invokeinterface 160 1, 5) := by decide +kernel
theorem dX2_told_153 : decode cX2_told 153 = .ok (.bipush 9, 2) := dk_16 9 (dk_at dksX2_told_6 13 rfl rfl)
theorem dX2_told_155 : decode cX2_told 155 = .ok (.if_icmp .ne 7, 3) := dk_160 0 7 (dk_at dksX2_told_6 15 rfl rfl)
theorem dX2_told_158 : decode cX2_told 158 = .ok (.iconst 1, 1) := dk_4 (dk_at dksX2_told_6 18 rfl rfl)
theorem dX2_told_159 : decode cX2_told 159 = .ok (.goto 4, 3) := dk_167 0 4 (dk_at dksX2_told_6 19 rfl rfl)
theorem dX2_told_162 : decode cX2_told 162 = .ok (.iconst 0, 1) := dk_3 (dk_at dksX2_told_6 22 rfl rfl)
theorem dX2_told_163 : decode cX2_told 163 = .ok (.iload_n 2, 1) := dk_28 (dk_at dksX2_told_6 23 rfl rfl)
theorem dX2_told_164 : decode cX2_told 164 = .ok (.invokevirtual 138, 3) := dk_182 0 138 (dk_at dksX2_told_7 0 rfl rfl)
theorem dX2_told_167 : decode cX2_told 167 = .ok (.aload_n 0, 1) := dk_42 (dk_at dksX2_told_7 3 rfl rfl)
theorem dX2_told_168 : decode cX2_told 168 = .ok (.getfield 103, 3) := dk_180 0 103 (dk_at dksX2_told_7 4 rfl rfl)
theorem dX2_told_171 : decode cX2_told 171 = .ok (.getfield 107, 3) := dk_180 0 107 (dk_at dksX2_told_7 7 rfl rfl)
theorem dX2_told_174 : decode cX2_told 174 = .ok (.new 114, 3) := dk_187 0 114 (dk_at dksX2_told_7 10 rfl rfl)
theorem dX2_told_177 : decode cX2_told 177 = .ok (.dup, 1) := dk_89 (dk_at dksX2_told_7 13 rfl rfl)
theorem dX2_told_178 : decode cX2_told 178 = .ok (.aload_n 0, 1) := dk_42 (dk_at dksX2_told_7 14 rfl rfl)
theorem dX2_told_179 : decode cX2_told 179 = .ok (.invokevirtual 164, 3) := dk_182 0 164 (dk_at dksX2_told_7 15 rfl rfl)
theorem dX2_told_182 : decode cX2_told 182 = .ok (.invokespecial 167, 3) := dk_183 0 167 (dk_at dksX2_told_7 18 rfl rfl)
theorem dX2_told_185 : decode cX2_told 185 = .ok (.invokeinterface 169 2, 5) := by decide +kernel
theorem dX2_told_190 : decode cX2_told 190 = .ok (.pop, 1) := dk_87 (dk_at dksX2_told_8 5 rfl rfl)
theorem dX2_told_191 : decode cX2_told 191 = .ok (.goto 151, 3) := dk_167 0 151 (dk_at dksX2_told_8 6 rfl rfl)
theorem dX2_told_194 : decode cX2_told 194 = .ok (.aload_n 0, 1) := dk_42 (dk_at dksX2_told_8 9 rfl rfl)
theorem dX2_told_195 : decode cX2_told 195 = .ok (.aload_n 0, 1) := dk_42 (dk_at dksX2_told_8 10 rfl rfl)
theorem dX2_told_196 : decode cX2_told 196 = .ok (.getfield 103, 3) := dk_180 0 103 (dk_at dksX2_told_8 11 rfl rfl)
theorem dX2_told_199 : decode cX2_told 199 = .ok (.getfield 118, 3) := dk_180 0 118 (dk_at dksX2_told_8 14 rfl rfl)
theorem dX2_told_202 : decode cX2_told 202 = .ok (.invokeinterface 160 1, 5) := by decide +kernel
theorem dX2_told_207 : decode cX2_told 207 = .ok (.bipush 12, 2) := dk_16 12 (dk_at dksX2_told_8 22 rfl rfl)
theorem dX2_told_209 : decode cX2_told 209 = .ok (.if_icmp .ne 7, 3) := dk_160 0 7 (dk_at dksX2_told_9 0 rfl rfl)
theorem dX2_told_212 : decode cX2_told 212 = .ok (.iconst 1, 1) := dk_4 (dk_at dksX2_told_9 3 rfl rfl)
theorem dX2_told_213 : decode cX2_told 213 = .ok (.goto 4, 3) := dk_167 0 4 (dk_at dksX2_told_9 4 rfl rfl)
theorem dX2_told_216 : decode cX2_told 216 = .ok (.iconst 0, 1) := dk_3 (dk_at dksX2_told_9 7 rfl rfl)
theorem dX2_told_217 : decode cX2_told 217 = .ok (.iload_n 2, 1) := dk_28 (dk_at dksX2_told_9 8 rfl rfl)
theorem dX2_told_218 : decode cX2_told 218 = .ok (.invokevirtual 138, 3) := dk_182 0 138 (dk_at dksX2_told_9 9 rfl rfl)
theorem dX2_told_221 : decode cX2_told 221 = .ok (.aload_n 0, 1) := dk_42 (dk_at dksX2_told_9 12 rfl rfl)
theorem dX2_told_222 : decode cX2_told 222 = .ok (.invokevirtual 172, 3) := dk_182 0 172 (dk_at dksX2_told_9 13 rfl rfl)
theorem dX2_told_225 : decode cX2_told 225 = .ok (.goto 117, 3) := dk_167 0 117 (dk_at dksX2_told_9 16 rfl rfl)
theorem dX2_told_228 : decode cX2_told 228 = .ok (.aload_n 0, 1) := dk_42 (dk_at dksX2_told_9 19 rfl rfl)
theorem dX2_told_229 : decode cX2_told 229 = .ok (.aload_n 0, 1) := dk_42 (dk_at dksX2_told_9 20 rfl rfl)
theorem dX2_told_230 : decode cX2_told 230 = .ok (.getfield 103, 3) := dk_180 0 103 (dk_at dksX2_told_9 21 rfl rfl)
theorem dX2_told_233 : decode cX2_told 233 = .ok (.getfield 121, 3) := dk_180 0 121 (dk_at dksX2_told_10 0 rfl rfl)
theorem dX2_told_236 : decode cX2_told 236 = .ok (.invokeinterface 160 1, 5) := by decide +kernel
theorem dX2_told_241 : decode cX2_told 241 = .ok (.bipush 6, 2) := dk_16 6 (dk_at dksX2_told_10 8 rfl rfl)
theorem dX2_told_243 : decode cX2_told 243 = .ok (.if_icmp .ne 7, 3) := dk_160 0 7 (dk_at dksX2_told_10 10 rfl rfl)
theorem dX2_told_246 : decode cX2_told 246 = .ok (.iconst 1, 1) := dk_4 (dk_at dksX2_told_10 13 rfl rfl)
theorem dX2_told_247 : decode cX2_told 247 = .ok (.goto 4, 3) := dk_167 0 4 (dk_at dksX2_told_10 14 rfl rfl)
theorem dX2_told_250 : decode cX2_told 250 = .ok (.iconst 0, 1) := dk_3 (dk_at dksX2_told_10 17 rfl rfl)
theorem dX2_told_251 : decode cX2_told 251 = .ok (.iload_n 2, 1) := dk_28 (dk_at dksX2_told_10 18 rfl rfl)
theorem dX2_told_252 : decode cX2_told 252 = .ok (.invokevirtual 138, 3) := dk_182 0 138 (dk_at dksX2_told_10 19 rfl rfl)
theorem dX2_told_255 : decode cX2_told 255 = .ok (.aload_n 0, 1) := dk_42 (dk_at dksX2_told_10 22 rfl rfl)
theorem dX2_told_256 : decode cX2_told 256 = .ok (.invokevirtual 164, 3) := dk_182 0 164 (dk_at dksX2_told_11 0 rfl rfl)
theorem dX2_told_259 : decode cX2_told 259 = .ok (.astore 5, 2) := dk_58 5 (dk_at dksX2_told_11 3 rfl rfl)
theorem dX2_told_261 : decode cX2_told 261 = .ok (.aload_n 0, 1) := dk_42 (dk_at dksX2_told_11 5 rfl rfl)
theorem dX2_told_262 : decode cX2_told 262 = .ok (.ldc 174, 2) := dk_18 174 (dk_at dksX2_told_11 6 rfl rfl)
theorem dX2_told_264 : decode cX2_told 264 = .ok (.iconst 1, 1) := dk_4 (dk_at dksX2_told_11 8 rfl rfl)
theorem dX2_told_265 : decode cX2_told 265 = .ok (.bipush 99, 2) := dk_16 99 (dk_at dksX2_told_11 9 rfl rfl)
theorem dX2_told_267 : decode cX2_told 267 = .ok (.invokevirtual 176, 3) := dk_182 0 176 (dk_at dksX2_told_11 11 rfl rfl)
theorem dX2_told_270 : decode cX2_told 270 = .ok (.istore 6, 2) := dk_54 6 (dk_at dksX2_told_11 14 rfl rfl)
theorem dX2_told_272 : decode cX2_told 272 = .ok (.aload_n 0, 1) := dk_42 (dk_at dksX2_told_11 16 rfl rfl)
theorem dX2_told_273 : decode cX2_told 273 = .ok (.ldc 179, 2) := dk_18 179 (dk_at dksX2_told_11 17 rfl rfl)
theorem dX2_told_275 : decode cX2_told 275 = .ok (.invokevirtual 124, 3) := dk_182 0 124 (dk_at dksX2_told_11 19 rfl rfl)
theorem dX2_told_278 : decode cX2_told 278 = .ok (.istore 7, 2) := dk_54 7 (dk_at dksX2_told_11 22 rfl rfl)
theorem dX2_told_280 : decode cX2_told 280 = .ok (.aload_n 0, 1) := dk_42 (dk_at dksX2_told_12 0 rfl rfl)
theorem dX2_told_281 : decode cX2_told 281 = .ok (.getfield 103, 3) := dk_180 0 103 (dk_at dksX2_told_12 1 rfl rfl)
theorem dX2_told_284 : decode cX2_told 284 = .ok (.getfield 121, 3) := dk_180 0 121 (dk_at dksX2_told_12 4 rfl rfl)
theorem dX2_told_287 : decode cX2_told 287 = .ok (.new 180, 3) := dk_187 0 180 (dk_at dksX2_told_12 7 rfl rfl)
theorem dX2_told_290 : decode cX2_told 290 = .ok (.dup, 1) := dk_89 (dk_at dksX2_told_12 10 rfl rfl)
theorem dX2_told_291 : decode cX2_told 291 = .ok (.aload 5, 2) := dk_25 5 (dk_at dksX2_told_12 11 rfl rfl)
theorem dX2_told_293 : decode cX2_told 293 = .ok (.iload 6, 2) := dk_21 6 (dk_at dksX2_told_12 13 rfl rfl)
theorem dX2_told_295 : decode cX2_told 295 = .ok (.iload 7, 2) := dk_21 7 (dk_at dksX2_told_12 15 rfl rfl)
theorem dX2_told_297 : decode cX2_told 297 = .ok (.aload_n 0, 1) := dk_42 (dk_at dksX2_told_12 17 rfl rfl)
theorem dX2_told_298 : decode cX2_told 298 = .ok (.ldc 182, 2) := dk_18 182 (dk_at dksX2_told_12 18 rfl rfl)
theorem dX2_told_300 : decode cX2_told 300 = .ok (.iload 7, 2) := dk_21 7 (dk_at dksX2_told_12 20 rfl rfl)
theorem dX2_told_302 : decode cX2_told 302 = .ok (.invokevirtual 183, 3) := dk_182 0 183 (dk_at dksX2_told_13 0 rfl rfl)
theorem dX2_told_305 : decode cX2_told 305 = .ok (.invokespecial 187, 3) := dk_183 0 187 (dk_at dksX2_told_13 3 rfl rfl)
theorem dX2_told_308 : decode cX2_told 308 = .ok (.invokeinterface 169 2, 5) := by decide +kernel
theorem dX2_told_313 : decode cX2_told 313 = .ok (.pop, 1) := dk_87 (dk_at dksX2_told_13 11 rfl rfl)
theorem dX2_told_314 : decode cX2_told 314 = .ok (.goto 28, 3) := dk_167 0 28 (dk_at dksX2_told_13 12 rfl rfl)
theorem dX2_told_317 : decode cX2_told 317 = .ok (.aload_n 0, 1) := dk_42 (dk_at dksX2_told_13 15 rfl rfl)
theorem dX2_told_318 : decode cX2_told 318 = .ok (.getfield 103, 3) := dk_180 0 103 (dk_at dksX2_told_13 16 rfl rfl)
theorem dX2_told_321 : decode cX2_told 321 = .ok (.aload_n 0, 1) := dk_42 (dk_at dksX2_told_13 19 rfl rfl)
theorem dX2_told_322 : decode cX2_told 322 = .ok (.iconst 0, 1) := dk_3 (dk_at dksX2_told_13 20 rfl rfl)
theorem dX2_told_323 : decode cX2_told 323 = .ok (.sipush 999, 3) := dk_17 3 231 (dk_at dksX2_told_13 21 rfl rfl)
theorem dX2_told_326 : decode cX2_told 326 = .ok (.invokevirtual 96, 3) := dk_182 0 96 (dk_at dksX2_told_14 0 rfl rfl)
theorem dX2_told_329 : decode cX2_told 329 = .ok (.putfield 190, 3) := dk_181 0 190 (dk_at dksX2_told_14 3 rfl rfl)
theorem dX2_told_332 : decode cX2_told 332 = .ok (.goto 10, 3) := dk_167 0 10 (dk_at dksX2_told_14 6 rfl rfl)
theorem dX2_told_335 : decode cX2_told 335 = .ok (.aload_n 0, 1) := dk_42 (dk_at dksX2_told_14 9 rfl rfl)
theorem dX2_told_336 : decode cX2_told 336 = .ok (.iconst 1, 1) := dk_4 (dk_at dksX2_told_14 10 rfl rfl)
theorem dX2_told_337 : decode cX2_told 337 = .ok (.iload_n 2, 1) := dk_28 (dk_at dksX2_told_14 11 rfl rfl)
theorem dX2_told_338 : decode cX2_told 338 = .ok (.invokevirtual 47, 3) := dk_182 0 47 (dk_at dksX2_told_14 12 rfl rfl)
theorem dX2_told_341 : decode cX2_told 341 = .ok (.athrow, 1) := dk_191 (dk_at dksX2_told_14 15 rfl rfl)
theorem dX2_told_342 : decode cX2_told 342 = .ok (.return_, 1) := dk_177 (dk_at dksX2_told_14 16 rfl rfl)
abbrev cX2_fresh : ByteArray := prog_14_method_13_code
def yX2_fresh : MethodName := ⟨RX2, "fresh", "()Ljava/lang/String;"⟩
def dkwX2_fresh_3 : List UInt8 := [176]
abbrev dktX2_fresh_3 : List UInt8 := dkwX2_fresh_3 ++ []
def dkwX2_fresh_2 : List UInt8 := [159, 0, 7, 4, 167, 0, 4, 3, 61, 28, 153, 0, 13, 42, 6, 42, 180, 0, 61, 182, 0, 47, 191, 43]
abbrev dktX2_fresh_2 : List UInt8 := dkwX2_fresh_2 ++ dktX2_fresh_3
def dkwX2_fresh_1 : List UInt8 := [180, 0, 118, 43, 184, 0, 113, 2, 160, 0, 18, 42, 180, 0, 103, 180, 0, 121, 43, 184, 0, 113, 2]
abbrev dktX2_fresh_1 : List UInt8 := dkwX2_fresh_1 ++ dktX2_fresh_2
def dkwX2_fresh_0 : List UInt8 := [42, 182, 0, 100, 76, 42, 180, 0, 103, 180, 0, 107, 43, 184, 0, 113, 2, 160, 0, 33, 42, 180, 0, 103]
abbrev dktX2_fresh_0 : List UInt8 := dkwX2_fresh_0 ++ dktX2_fresh_1
theorem dksX2_fresh_0 : cX2_fresh.data.toList.drop 0 = dktX2_fresh_0 := by decide +kernel
theorem dksX2_fresh_1 : cX2_fresh.data.toList.drop 24 = dktX2_fresh_1 := dk_seg dksX2_fresh_0 24 rfl rfl
theorem dksX2_fresh_2 : cX2_fresh.data.toList.drop 47 = dktX2_fresh_2 := dk_seg dksX2_fresh_1 23 rfl rfl
theorem dksX2_fresh_3 : cX2_fresh.data.toList.drop 71 = dktX2_fresh_3 := dk_seg dksX2_fresh_2 24 rfl rfl
theorem dX2_fresh_0 : decode cX2_fresh 0 = .ok (.aload_n 0, 1) := dk_42 (dk_at dksX2_fresh_0 0 rfl rfl)
theorem dX2_fresh_1 : decode cX2_fresh 1 = .ok (.invokevirtual 100, 3) := dk_182 0 100 (dk_at dksX2_fresh_0 1 rfl rfl)
theorem dX2_fresh_4 : decode cX2_fresh 4 = .ok (.astore_n 1, 1) := dk_76 (dk_at dksX2_fresh_0 4 rfl rfl)
theorem dX2_fresh_5 : decode cX2_fresh 5 = .ok (.aload_n 0, 1) := dk_42 (dk_at dksX2_fresh_0 5 rfl rfl)
theorem dX2_fresh_6 : decode cX2_fresh 6 = .ok (.getfield 103, 3) := dk_180 0 103 (dk_at dksX2_fresh_0 6 rfl rfl)
theorem dX2_fresh_9 : decode cX2_fresh 9 = .ok (.getfield 107, 3) := dk_180 0 107 (dk_at dksX2_fresh_0 9 rfl rfl)
theorem dX2_fresh_12 : decode cX2_fresh 12 = .ok (.aload_n 1, 1) := dk_43 (dk_at dksX2_fresh_0 12 rfl rfl)
theorem dX2_fresh_13 : decode cX2_fresh 13 = .ok (.invokestatic 113, 3) := dk_184 0 113 (dk_at dksX2_fresh_0 13 rfl rfl)
theorem dX2_fresh_16 : decode cX2_fresh 16 = .ok (.iconst (-1), 1) := dk_2 (dk_at dksX2_fresh_0 16 rfl rfl)
theorem dX2_fresh_17 : decode cX2_fresh 17 = .ok (.if_icmp .ne 33, 3) := dk_160 0 33 (dk_at dksX2_fresh_0 17 rfl rfl)
theorem dX2_fresh_20 : decode cX2_fresh 20 = .ok (.aload_n 0, 1) := dk_42 (dk_at dksX2_fresh_0 20 rfl rfl)
theorem dX2_fresh_21 : decode cX2_fresh 21 = .ok (.getfield 103, 3) := dk_180 0 103 (dk_at dksX2_fresh_0 21 rfl rfl)
theorem dX2_fresh_24 : decode cX2_fresh 24 = .ok (.getfield 118, 3) := dk_180 0 118 (dk_at dksX2_fresh_1 0 rfl rfl)
theorem dX2_fresh_27 : decode cX2_fresh 27 = .ok (.aload_n 1, 1) := dk_43 (dk_at dksX2_fresh_1 3 rfl rfl)
theorem dX2_fresh_28 : decode cX2_fresh 28 = .ok (.invokestatic 113, 3) := dk_184 0 113 (dk_at dksX2_fresh_1 4 rfl rfl)
theorem dX2_fresh_31 : decode cX2_fresh 31 = .ok (.iconst (-1), 1) := dk_2 (dk_at dksX2_fresh_1 7 rfl rfl)
theorem dX2_fresh_32 : decode cX2_fresh 32 = .ok (.if_icmp .ne 18, 3) := dk_160 0 18 (dk_at dksX2_fresh_1 8 rfl rfl)
theorem dX2_fresh_35 : decode cX2_fresh 35 = .ok (.aload_n 0, 1) := dk_42 (dk_at dksX2_fresh_1 11 rfl rfl)
theorem dX2_fresh_36 : decode cX2_fresh 36 = .ok (.getfield 103, 3) := dk_180 0 103 (dk_at dksX2_fresh_1 12 rfl rfl)
theorem dX2_fresh_39 : decode cX2_fresh 39 = .ok (.getfield 121, 3) := dk_180 0 121 (dk_at dksX2_fresh_1 15 rfl rfl)
theorem dX2_fresh_42 : decode cX2_fresh 42 = .ok (.aload_n 1, 1) := dk_43 (dk_at dksX2_fresh_1 18 rfl rfl)
theorem dX2_fresh_43 : decode cX2_fresh 43 = .ok (.invokestatic 113, 3) := dk_184 0 113 (dk_at dksX2_fresh_1 19 rfl rfl)
theorem dX2_fresh_46 : decode cX2_fresh 46 = .ok (.iconst (-1), 1) := dk_2 (dk_at dksX2_fresh_1 22 rfl rfl)
theorem dX2_fresh_47 : decode cX2_fresh 47 = .ok (.if_icmp .eq 7, 3) := dk_159 0 7 (dk_at dksX2_fresh_2 0 rfl rfl)
theorem dX2_fresh_50 : decode cX2_fresh 50 = .ok (.iconst 1, 1) := dk_4 (dk_at dksX2_fresh_2 3 rfl rfl)
theorem dX2_fresh_51 : decode cX2_fresh 51 = .ok (.goto 4, 3) := dk_167 0 4 (dk_at dksX2_fresh_2 4 rfl rfl)
theorem dX2_fresh_54 : decode cX2_fresh 54 = .ok (.iconst 0, 1) := dk_3 (dk_at dksX2_fresh_2 7 rfl rfl)
theorem dX2_fresh_55 : decode cX2_fresh 55 = .ok (.istore_n 2, 1) := dk_61 (dk_at dksX2_fresh_2 8 rfl rfl)
theorem dX2_fresh_56 : decode cX2_fresh 56 = .ok (.iload_n 2, 1) := dk_28 (dk_at dksX2_fresh_2 9 rfl rfl)
theorem dX2_fresh_57 : decode cX2_fresh 57 = .ok (.ifCond .eq 13, 3) := dk_153 0 13 (dk_at dksX2_fresh_2 10 rfl rfl)
theorem dX2_fresh_60 : decode cX2_fresh 60 = .ok (.aload_n 0, 1) := dk_42 (dk_at dksX2_fresh_2 13 rfl rfl)
theorem dX2_fresh_61 : decode cX2_fresh 61 = .ok (.iconst 3, 1) := dk_6 (dk_at dksX2_fresh_2 14 rfl rfl)
theorem dX2_fresh_62 : decode cX2_fresh 62 = .ok (.aload_n 0, 1) := dk_42 (dk_at dksX2_fresh_2 15 rfl rfl)
theorem dX2_fresh_63 : decode cX2_fresh 63 = .ok (.getfield 61, 3) := dk_180 0 61 (dk_at dksX2_fresh_2 16 rfl rfl)
theorem dX2_fresh_66 : decode cX2_fresh 66 = .ok (.invokevirtual 47, 3) := dk_182 0 47 (dk_at dksX2_fresh_2 19 rfl rfl)
theorem dX2_fresh_69 : decode cX2_fresh 69 = .ok (.athrow, 1) := dk_191 (dk_at dksX2_fresh_2 22 rfl rfl)
theorem dX2_fresh_70 : decode cX2_fresh 70 = .ok (.aload_n 1, 1) := dk_43 (dk_at dksX2_fresh_2 23 rfl rfl)
theorem dX2_fresh_71 : decode cX2_fresh 71 = .ok (.areturn, 1) := dk_176 (dk_at dksX2_fresh_3 0 rfl rfl)
abbrev cX2_name : ByteArray := prog_14_method_10_code
def yX2_name : MethodName := ⟨RX2, "name", "()Ljava/lang/String;"⟩
def dkwX2_name_2 : List UInt8 := [182, 0, 47, 191, 43, 176]
abbrev dktX2_name_2 : List UInt8 := dkwX2_name_2 ++ []
def dkwX2_name_1 : List UInt8 := [182, 0, 47, 191, 43, 182, 0, 86, 16, 6, 164, 0, 16, 42, 4, 42, 180, 0, 61, 16, 6, 96]
abbrev dktX2_name_1 : List UInt8 := dkwX2_name_1 ++ dktX2_name_2
def dkwX2_name_0 : List UInt8 := [42, 182, 0, 70, 76, 43, 178, 0, 78, 184, 0, 82, 2, 159, 0, 13, 42, 4, 42, 180, 0, 61]
abbrev dktX2_name_0 : List UInt8 := dkwX2_name_0 ++ dktX2_name_1
theorem dksX2_name_0 : cX2_name.data.toList.drop 0 = dktX2_name_0 := by decide +kernel
theorem dksX2_name_1 : cX2_name.data.toList.drop 22 = dktX2_name_1 := dk_seg dksX2_name_0 22 rfl rfl
theorem dksX2_name_2 : cX2_name.data.toList.drop 44 = dktX2_name_2 := dk_seg dksX2_name_1 22 rfl rfl
theorem dX2_name_0 : decode cX2_name 0 = .ok (.aload_n 0, 1) := dk_42 (dk_at dksX2_name_0 0 rfl rfl)
theorem dX2_name_1 : decode cX2_name 1 = .ok (.invokevirtual 70, 3) := dk_182 0 70 (dk_at dksX2_name_0 1 rfl rfl)
theorem dX2_name_4 : decode cX2_name 4 = .ok (.astore_n 1, 1) := dk_76 (dk_at dksX2_name_0 4 rfl rfl)
theorem dX2_name_5 : decode cX2_name 5 = .ok (.aload_n 1, 1) := dk_43 (dk_at dksX2_name_0 5 rfl rfl)
theorem dX2_name_6 : decode cX2_name 6 = .ok (.getstatic 78, 3) := dk_178 0 78 (dk_at dksX2_name_0 6 rfl rfl)
theorem dX2_name_9 : decode cX2_name 9 = .ok (.invokestatic 82, 3) := dk_184 0 82 (dk_at dksX2_name_0 9 rfl rfl)
theorem dX2_name_12 : decode cX2_name 12 = .ok (.iconst (-1), 1) := dk_2 (dk_at dksX2_name_0 12 rfl rfl)
theorem dX2_name_13 : decode cX2_name 13 = .ok (.if_icmp .eq 13, 3) := dk_159 0 13 (dk_at dksX2_name_0 13 rfl rfl)
theorem dX2_name_16 : decode cX2_name 16 = .ok (.aload_n 0, 1) := dk_42 (dk_at dksX2_name_0 16 rfl rfl)
theorem dX2_name_17 : decode cX2_name 17 = .ok (.iconst 1, 1) := dk_4 (dk_at dksX2_name_0 17 rfl rfl)
theorem dX2_name_18 : decode cX2_name 18 = .ok (.aload_n 0, 1) := dk_42 (dk_at dksX2_name_0 18 rfl rfl)
theorem dX2_name_19 : decode cX2_name 19 = .ok (.getfield 61, 3) := dk_180 0 61 (dk_at dksX2_name_0 19 rfl rfl)
theorem dX2_name_22 : decode cX2_name 22 = .ok (.invokevirtual 47, 3) := dk_182 0 47 (dk_at dksX2_name_1 0 rfl rfl)
theorem dX2_name_25 : decode cX2_name 25 = .ok (.athrow, 1) := dk_191 (dk_at dksX2_name_1 3 rfl rfl)
theorem dX2_name_26 : decode cX2_name 26 = .ok (.aload_n 1, 1) := dk_43 (dk_at dksX2_name_1 4 rfl rfl)
theorem dX2_name_27 : decode cX2_name 27 = .ok (.invokevirtual 86, 3) := dk_182 0 86 (dk_at dksX2_name_1 5 rfl rfl)
theorem dX2_name_30 : decode cX2_name 30 = .ok (.bipush 6, 2) := dk_16 6 (dk_at dksX2_name_1 8 rfl rfl)
theorem dX2_name_32 : decode cX2_name 32 = .ok (.if_icmp .le 16, 3) := dk_164 0 16 (dk_at dksX2_name_1 10 rfl rfl)
theorem dX2_name_35 : decode cX2_name 35 = .ok (.aload_n 0, 1) := dk_42 (dk_at dksX2_name_1 13 rfl rfl)
theorem dX2_name_36 : decode cX2_name 36 = .ok (.iconst 1, 1) := dk_4 (dk_at dksX2_name_1 14 rfl rfl)
theorem dX2_name_37 : decode cX2_name 37 = .ok (.aload_n 0, 1) := dk_42 (dk_at dksX2_name_1 15 rfl rfl)
theorem dX2_name_38 : decode cX2_name 38 = .ok (.getfield 61, 3) := dk_180 0 61 (dk_at dksX2_name_1 16 rfl rfl)
theorem dX2_name_41 : decode cX2_name 41 = .ok (.bipush 6, 2) := dk_16 6 (dk_at dksX2_name_1 19 rfl rfl)
theorem dX2_name_43 : decode cX2_name 43 = .ok (.iadd, 1) := dk_96 (dk_at dksX2_name_1 21 rfl rfl)
theorem dX2_name_44 : decode cX2_name 44 = .ok (.invokevirtual 47, 3) := dk_182 0 47 (dk_at dksX2_name_2 0 rfl rfl)
theorem dX2_name_47 : decode cX2_name 47 = .ok (.athrow, 1) := dk_191 (dk_at dksX2_name_2 3 rfl rfl)
theorem dX2_name_48 : decode cX2_name 48 = .ok (.aload_n 1, 1) := dk_43 (dk_at dksX2_name_2 4 rfl rfl)
theorem dX2_name_49 : decode cX2_name 49 = .ok (.areturn, 1) := dk_176 (dk_at dksX2_name_2 5 rfl rfl)
abbrev cX2_street : ByteArray := prog_14_method_19_code
def yX2_street : MethodName := ⟨RX2, "street", "()V"⟩
def dkwX2_street_3 : List UInt8 := [29, 21, 4, 21, 5, 21, 6, 42, 182, 0, 203, 183, 0, 207, 185, 0, 169, 2, 0, 87, 177]
abbrev dktX2_street_3 : List UInt8 := dkwX2_street_3 ++ []
def dkwX2_street_2 : List UInt8 := [182, 0, 176, 54, 6, 42, 18, 199, 182, 0, 93, 42, 180, 0, 103, 180, 0, 118, 187, 0, 201, 89, 43, 28]
abbrev dktX2_street_2 : List UInt8 := dkwX2_street_2 ++ dktX2_street_3
def dkwX2_street_1 : List UInt8 := [7, 182, 0, 176, 54, 4, 42, 18, 195, 4, 16, 48, 182, 0, 176, 54, 5, 42, 18, 197, 3, 16, 47]
abbrev dktX2_street_1 : List UInt8 := dkwX2_street_1 ++ dktX2_street_2
def dkwX2_street_0 : List UInt8 := [42, 182, 0, 164, 76, 42, 18, 192, 182, 0, 124, 61, 42, 18, 182, 28, 182, 0, 183, 62, 42, 18, 193, 4]
abbrev dktX2_street_0 : List UInt8 := dkwX2_street_0 ++ dktX2_street_1
theorem dksX2_street_0 : cX2_street.data.toList.drop 0 = dktX2_street_0 := by decide +kernel
theorem dksX2_street_1 : cX2_street.data.toList.drop 24 = dktX2_street_1 := dk_seg dksX2_street_0 24 rfl rfl
theorem dksX2_street_2 : cX2_street.data.toList.drop 47 = dktX2_street_2 := dk_seg dksX2_street_1 23 rfl rfl
theorem dksX2_street_3 : cX2_street.data.toList.drop 71 = dktX2_street_3 := dk_seg dksX2_street_2 24 rfl rfl
theorem dX2_street_0 : decode cX2_street 0 = .ok (.aload_n 0, 1) := dk_42 (dk_at dksX2_street_0 0 rfl rfl)
theorem dX2_street_1 : decode cX2_street 1 = .ok (.invokevirtual 164, 3) := dk_182 0 164 (dk_at dksX2_street_0 1 rfl rfl)
theorem dX2_street_4 : decode cX2_street 4 = .ok (.astore_n 1, 1) := dk_76 (dk_at dksX2_street_0 4 rfl rfl)
theorem dX2_street_5 : decode cX2_street 5 = .ok (.aload_n 0, 1) := dk_42 (dk_at dksX2_street_0 5 rfl rfl)
theorem dX2_street_6 : decode cX2_street 6 = .ok (.ldc 192, 2) := dk_18 192 (dk_at dksX2_street_0 6 rfl rfl)
theorem dX2_street_8 : decode cX2_street 8 = .ok (.invokevirtual 124, 3) := dk_182 0 124 (dk_at dksX2_street_0 8 rfl rfl)
theorem dX2_street_11 : decode cX2_street 11 = .ok (.istore_n 2, 1) := dk_61 (dk_at dksX2_street_0 11 rfl rfl)
theorem dX2_street_12 : decode cX2_street 12 = .ok (.aload_n 0, 1) := dk_42 (dk_at dksX2_street_0 12 rfl rfl)
theorem dX2_street_13 : decode cX2_street 13 = .ok (.ldc 182, 2) := dk_18 182 (dk_at dksX2_street_0 13 rfl rfl)
theorem dX2_street_15 : decode cX2_street 15 = .ok (.iload_n 2, 1) := dk_28 (dk_at dksX2_street_0 15 rfl rfl)
theorem dX2_street_16 : decode cX2_street 16 = .ok (.invokevirtual 183, 3) := dk_182 0 183 (dk_at dksX2_street_0 16 rfl rfl)
theorem dX2_street_19 : decode cX2_street 19 = .ok (.istore_n 3, 1) := dk_62 (dk_at dksX2_street_0 19 rfl rfl)
theorem dX2_street_20 : decode cX2_street 20 = .ok (.aload_n 0, 1) := dk_42 (dk_at dksX2_street_0 20 rfl rfl)
theorem dX2_street_21 : decode cX2_street 21 = .ok (.ldc 193, 2) := dk_18 193 (dk_at dksX2_street_0 21 rfl rfl)
theorem dX2_street_23 : decode cX2_street 23 = .ok (.iconst 1, 1) := dk_4 (dk_at dksX2_street_0 23 rfl rfl)
theorem dX2_street_24 : decode cX2_street 24 = .ok (.iconst 4, 1) := dk_7 (dk_at dksX2_street_1 0 rfl rfl)
theorem dX2_street_25 : decode cX2_street 25 = .ok (.invokevirtual 176, 3) := dk_182 0 176 (dk_at dksX2_street_1 1 rfl rfl)
theorem dX2_street_28 : decode cX2_street 28 = .ok (.istore 4, 2) := dk_54 4 (dk_at dksX2_street_1 4 rfl rfl)
theorem dX2_street_30 : decode cX2_street 30 = .ok (.aload_n 0, 1) := dk_42 (dk_at dksX2_street_1 6 rfl rfl)
theorem dX2_street_31 : decode cX2_street 31 = .ok (.ldc 195, 2) := dk_18 195 (dk_at dksX2_street_1 7 rfl rfl)
theorem dX2_street_33 : decode cX2_street 33 = .ok (.iconst 1, 1) := dk_4 (dk_at dksX2_street_1 9 rfl rfl)
theorem dX2_street_34 : decode cX2_street 34 = .ok (.bipush 48, 2) := dk_16 48 (dk_at dksX2_street_1 10 rfl rfl)
theorem dX2_street_36 : decode cX2_street 36 = .ok (.invokevirtual 176, 3) := dk_182 0 176 (dk_at dksX2_street_1 12 rfl rfl)
theorem dX2_street_39 : decode cX2_street 39 = .ok (.istore 5, 2) := dk_54 5 (dk_at dksX2_street_1 15 rfl rfl)
theorem dX2_street_41 : decode cX2_street 41 = .ok (.aload_n 0, 1) := dk_42 (dk_at dksX2_street_1 17 rfl rfl)
theorem dX2_street_42 : decode cX2_street 42 = .ok (.ldc 197, 2) := dk_18 197 (dk_at dksX2_street_1 18 rfl rfl)
theorem dX2_street_44 : decode cX2_street 44 = .ok (.iconst 0, 1) := dk_3 (dk_at dksX2_street_1 20 rfl rfl)
theorem dX2_street_45 : decode cX2_street 45 = .ok (.bipush 47, 2) := dk_16 47 (dk_at dksX2_street_1 21 rfl rfl)
theorem dX2_street_47 : decode cX2_street 47 = .ok (.invokevirtual 176, 3) := dk_182 0 176 (dk_at dksX2_street_2 0 rfl rfl)
theorem dX2_street_50 : decode cX2_street 50 = .ok (.istore 6, 2) := dk_54 6 (dk_at dksX2_street_2 3 rfl rfl)
theorem dX2_street_52 : decode cX2_street 52 = .ok (.aload_n 0, 1) := dk_42 (dk_at dksX2_street_2 5 rfl rfl)
theorem dX2_street_53 : decode cX2_street 53 = .ok (.ldc 199, 2) := dk_18 199 (dk_at dksX2_street_2 6 rfl rfl)
theorem dX2_street_55 : decode cX2_street 55 = .ok (.invokevirtual 93, 3) := dk_182 0 93 (dk_at dksX2_street_2 8 rfl rfl)
theorem dX2_street_58 : decode cX2_street 58 = .ok (.aload_n 0, 1) := dk_42 (dk_at dksX2_street_2 11 rfl rfl)
theorem dX2_street_59 : decode cX2_street 59 = .ok (.getfield 103, 3) := dk_180 0 103 (dk_at dksX2_street_2 12 rfl rfl)
theorem dX2_street_62 : decode cX2_street 62 = .ok (.getfield 118, 3) := dk_180 0 118 (dk_at dksX2_street_2 15 rfl rfl)
theorem dX2_street_65 : decode cX2_street 65 = .ok (.new 201, 3) := dk_187 0 201 (dk_at dksX2_street_2 18 rfl rfl)
theorem dX2_street_68 : decode cX2_street 68 = .ok (.dup, 1) := dk_89 (dk_at dksX2_street_2 21 rfl rfl)
theorem dX2_street_69 : decode cX2_street 69 = .ok (.aload_n 1, 1) := dk_43 (dk_at dksX2_street_2 22 rfl rfl)
theorem dX2_street_70 : decode cX2_street 70 = .ok (.iload_n 2, 1) := dk_28 (dk_at dksX2_street_2 23 rfl rfl)
theorem dX2_street_71 : decode cX2_street 71 = .ok (.iload_n 3, 1) := dk_29 (dk_at dksX2_street_3 0 rfl rfl)
theorem dX2_street_72 : decode cX2_street 72 = .ok (.iload 4, 2) := dk_21 4 (dk_at dksX2_street_3 1 rfl rfl)
theorem dX2_street_74 : decode cX2_street 74 = .ok (.iload 5, 2) := dk_21 5 (dk_at dksX2_street_3 3 rfl rfl)
theorem dX2_street_76 : decode cX2_street 76 = .ok (.iload 6, 2) := dk_21 6 (dk_at dksX2_street_3 5 rfl rfl)
theorem dX2_street_78 : decode cX2_street 78 = .ok (.aload_n 0, 1) := dk_42 (dk_at dksX2_street_3 7 rfl rfl)
theorem dX2_street_79 : decode cX2_street 79 = .ok (.invokevirtual 203, 3) := dk_182 0 203 (dk_at dksX2_street_3 8 rfl rfl)
theorem dX2_street_82 : decode cX2_street 82 = .ok (.invokespecial 207, 3) := dk_183 0 207 (dk_at dksX2_street_3 11 rfl rfl)
theorem dX2_street_85 : decode cX2_street 85 = .ok (.invokeinterface 169 2, 5) := by decide +kernel
theorem dX2_street_90 : decode cX2_street 90 = .ok (.pop, 1) := dk_87 (dk_at dksX2_street_3 19 rfl rfl)
theorem dX2_street_91 : decode cX2_street 91 = .ok (.return_, 1) := dk_177 (dk_at dksX2_street_3 20 rfl rfl)
abbrev cX2_place : ByteArray := prog_14_method_14_code
def yX2_place : MethodName := ⟨RX2, "place", "(Ljava/lang/String;)I"⟩
def dkwX2_place_1 : List UInt8 := [160, 0, 13, 42, 6, 42, 180, 0, 61, 182, 0, 47, 191, 28, 172]
abbrev dktX2_place_1 : List UInt8 := dkwX2_place_1 ++ []
def dkwX2_place_0 : List UInt8 := [42, 43, 182, 0, 93, 42, 180, 0, 103, 180, 0, 107, 42, 182, 0, 100, 184, 0, 113, 61, 28, 2]
abbrev dktX2_place_0 : List UInt8 := dkwX2_place_0 ++ dktX2_place_1
theorem dksX2_place_0 : cX2_place.data.toList.drop 0 = dktX2_place_0 := by decide +kernel
theorem dksX2_place_1 : cX2_place.data.toList.drop 22 = dktX2_place_1 := dk_seg dksX2_place_0 22 rfl rfl
theorem dX2_place_0 : decode cX2_place 0 = .ok (.aload_n 0, 1) := dk_42 (dk_at dksX2_place_0 0 rfl rfl)
theorem dX2_place_1 : decode cX2_place 1 = .ok (.aload_n 1, 1) := dk_43 (dk_at dksX2_place_0 1 rfl rfl)
theorem dX2_place_2 : decode cX2_place 2 = .ok (.invokevirtual 93, 3) := dk_182 0 93 (dk_at dksX2_place_0 2 rfl rfl)
theorem dX2_place_5 : decode cX2_place 5 = .ok (.aload_n 0, 1) := dk_42 (dk_at dksX2_place_0 5 rfl rfl)
theorem dX2_place_6 : decode cX2_place 6 = .ok (.getfield 103, 3) := dk_180 0 103 (dk_at dksX2_place_0 6 rfl rfl)
theorem dX2_place_9 : decode cX2_place 9 = .ok (.getfield 107, 3) := dk_180 0 107 (dk_at dksX2_place_0 9 rfl rfl)
theorem dX2_place_12 : decode cX2_place 12 = .ok (.aload_n 0, 1) := dk_42 (dk_at dksX2_place_0 12 rfl rfl)
theorem dX2_place_13 : decode cX2_place 13 = .ok (.invokevirtual 100, 3) := dk_182 0 100 (dk_at dksX2_place_0 13 rfl rfl)
theorem dX2_place_16 : decode cX2_place 16 = .ok (.invokestatic 113, 3) := dk_184 0 113 (dk_at dksX2_place_0 16 rfl rfl)
theorem dX2_place_19 : decode cX2_place 19 = .ok (.istore_n 2, 1) := dk_61 (dk_at dksX2_place_0 19 rfl rfl)
theorem dX2_place_20 : decode cX2_place 20 = .ok (.iload_n 2, 1) := dk_28 (dk_at dksX2_place_0 20 rfl rfl)
theorem dX2_place_21 : decode cX2_place 21 = .ok (.iconst (-1), 1) := dk_2 (dk_at dksX2_place_0 21 rfl rfl)
theorem dX2_place_22 : decode cX2_place 22 = .ok (.if_icmp .ne 13, 3) := dk_160 0 13 (dk_at dksX2_place_1 0 rfl rfl)
theorem dX2_place_25 : decode cX2_place 25 = .ok (.aload_n 0, 1) := dk_42 (dk_at dksX2_place_1 3 rfl rfl)
theorem dX2_place_26 : decode cX2_place 26 = .ok (.iconst 3, 1) := dk_6 (dk_at dksX2_place_1 4 rfl rfl)
theorem dX2_place_27 : decode cX2_place 27 = .ok (.aload_n 0, 1) := dk_42 (dk_at dksX2_place_1 5 rfl rfl)
theorem dX2_place_28 : decode cX2_place 28 = .ok (.getfield 61, 3) := dk_180 0 61 (dk_at dksX2_place_1 6 rfl rfl)
theorem dX2_place_31 : decode cX2_place 31 = .ok (.invokevirtual 47, 3) := dk_182 0 47 (dk_at dksX2_place_1 9 rfl rfl)
theorem dX2_place_34 : decode cX2_place 34 = .ok (.athrow, 1) := dk_191 (dk_at dksX2_place_1 12 rfl rfl)
theorem dX2_place_35 : decode cX2_place 35 = .ok (.iload_n 2, 1) := dk_28 (dk_at dksX2_place_1 13 rfl rfl)
theorem dX2_place_36 : decode cX2_place 36 = .ok (.ireturn, 1) := dk_172 (dk_at dksX2_place_1 14 rfl rfl)
abbrev cX2_word_2 : ByteArray := prog_14_method_8_code
def yX2_word_2 : MethodName := ⟨RX2, "word", "(Ljava/lang/String;)V"⟩
def dkwX2_word_2_0 : List UInt8 := [42, 182, 0, 70, 43, 182, 0, 74, 154, 0, 13, 42, 4, 42, 180, 0, 61, 182, 0, 47, 191, 177]
abbrev dktX2_word_2_0 : List UInt8 := dkwX2_word_2_0 ++ []
theorem dksX2_word_2_0 : cX2_word_2.data.toList.drop 0 = dktX2_word_2_0 := by decide +kernel
theorem dX2_word_2_0 : decode cX2_word_2 0 = .ok (.aload_n 0, 1) := dk_42 (dk_at dksX2_word_2_0 0 rfl rfl)
theorem dX2_word_2_1 : decode cX2_word_2 1 = .ok (.invokevirtual 70, 3) := dk_182 0 70 (dk_at dksX2_word_2_0 1 rfl rfl)
theorem dX2_word_2_4 : decode cX2_word_2 4 = .ok (.aload_n 1, 1) := dk_43 (dk_at dksX2_word_2_0 4 rfl rfl)
theorem dX2_word_2_5 : decode cX2_word_2 5 = .ok (.invokevirtual 74, 3) := dk_182 0 74 (dk_at dksX2_word_2_0 5 rfl rfl)
theorem dX2_word_2_8 : decode cX2_word_2 8 = .ok (.ifCond .ne 13, 3) := dk_154 0 13 (dk_at dksX2_word_2_0 8 rfl rfl)
theorem dX2_word_2_11 : decode cX2_word_2 11 = .ok (.aload_n 0, 1) := dk_42 (dk_at dksX2_word_2_0 11 rfl rfl)
theorem dX2_word_2_12 : decode cX2_word_2 12 = .ok (.iconst 1, 1) := dk_4 (dk_at dksX2_word_2_0 12 rfl rfl)
theorem dX2_word_2_13 : decode cX2_word_2 13 = .ok (.aload_n 0, 1) := dk_42 (dk_at dksX2_word_2_0 13 rfl rfl)
theorem dX2_word_2_14 : decode cX2_word_2 14 = .ok (.getfield 61, 3) := dk_180 0 61 (dk_at dksX2_word_2_0 14 rfl rfl)
theorem dX2_word_2_17 : decode cX2_word_2 17 = .ok (.invokevirtual 47, 3) := dk_182 0 47 (dk_at dksX2_word_2_0 17 rfl rfl)
theorem dX2_word_2_20 : decode cX2_word_2 20 = .ok (.athrow, 1) := dk_191 (dk_at dksX2_word_2_0 20 rfl rfl)
theorem dX2_word_2_21 : decode cX2_word_2 21 = .ok (.return_, 1) := dk_177 (dk_at dksX2_word_2_0 21 rfl rfl)
abbrev cX2_placeBut : ByteArray := prog_14_method_15_code
def yX2_placeBut : MethodName := ⟨RX2, "placeBut", "(Ljava/lang/String;I)I"⟩
def dkwX2_placeBut_0 : List UInt8 := [42, 43, 182, 0, 124, 62, 29, 28, 160, 0, 13, 42, 6, 42, 180, 0, 61, 182, 0, 47, 191, 29, 172]
abbrev dktX2_placeBut_0 : List UInt8 := dkwX2_placeBut_0 ++ []
theorem dksX2_placeBut_0 : cX2_placeBut.data.toList.drop 0 = dktX2_placeBut_0 := by decide +kernel
theorem dX2_placeBut_0 : decode cX2_placeBut 0 = .ok (.aload_n 0, 1) := dk_42 (dk_at dksX2_placeBut_0 0 rfl rfl)
theorem dX2_placeBut_1 : decode cX2_placeBut 1 = .ok (.aload_n 1, 1) := dk_43 (dk_at dksX2_placeBut_0 1 rfl rfl)
theorem dX2_placeBut_2 : decode cX2_placeBut 2 = .ok (.invokevirtual 124, 3) := dk_182 0 124 (dk_at dksX2_placeBut_0 2 rfl rfl)
theorem dX2_placeBut_5 : decode cX2_placeBut 5 = .ok (.istore_n 3, 1) := dk_62 (dk_at dksX2_placeBut_0 5 rfl rfl)
theorem dX2_placeBut_6 : decode cX2_placeBut 6 = .ok (.iload_n 3, 1) := dk_29 (dk_at dksX2_placeBut_0 6 rfl rfl)
theorem dX2_placeBut_7 : decode cX2_placeBut 7 = .ok (.iload_n 2, 1) := dk_28 (dk_at dksX2_placeBut_0 7 rfl rfl)
theorem dX2_placeBut_8 : decode cX2_placeBut 8 = .ok (.if_icmp .ne 13, 3) := dk_160 0 13 (dk_at dksX2_placeBut_0 8 rfl rfl)
theorem dX2_placeBut_11 : decode cX2_placeBut 11 = .ok (.aload_n 0, 1) := dk_42 (dk_at dksX2_placeBut_0 11 rfl rfl)
theorem dX2_placeBut_12 : decode cX2_placeBut 12 = .ok (.iconst 3, 1) := dk_6 (dk_at dksX2_placeBut_0 12 rfl rfl)
theorem dX2_placeBut_13 : decode cX2_placeBut 13 = .ok (.aload_n 0, 1) := dk_42 (dk_at dksX2_placeBut_0 13 rfl rfl)
theorem dX2_placeBut_14 : decode cX2_placeBut 14 = .ok (.getfield 61, 3) := dk_180 0 61 (dk_at dksX2_placeBut_0 14 rfl rfl)
theorem dX2_placeBut_17 : decode cX2_placeBut 17 = .ok (.invokevirtual 47, 3) := dk_182 0 47 (dk_at dksX2_placeBut_0 17 rfl rfl)
theorem dX2_placeBut_20 : decode cX2_placeBut 20 = .ok (.athrow, 1) := dk_191 (dk_at dksX2_placeBut_0 20 rfl rfl)
theorem dX2_placeBut_21 : decode cX2_placeBut 21 = .ok (.iload_n 3, 1) := dk_29 (dk_at dksX2_placeBut_0 21 rfl rfl)
theorem dX2_placeBut_22 : decode cX2_placeBut 22 = .ok (.ireturn, 1) := dk_172 (dk_at dksX2_placeBut_0 22 rfl rfl)
abbrev cX2_number : ByteArray := prog_14_method_12_code
def yX2_number : MethodName := ⟨RX2, "number", "(Ljava/lang/String;II)I"⟩
def dkwX2_number_0 : List UInt8 := [42, 43, 182, 0, 93, 42, 28, 29, 182, 0, 96, 172]
abbrev dktX2_number_0 : List UInt8 := dkwX2_number_0 ++ []
theorem dksX2_number_0 : cX2_number.data.toList.drop 0 = dktX2_number_0 := by decide +kernel
theorem dX2_number_0 : decode cX2_number 0 = .ok (.aload_n 0, 1) := dk_42 (dk_at dksX2_number_0 0 rfl rfl)
theorem dX2_number_1 : decode cX2_number 1 = .ok (.aload_n 1, 1) := dk_43 (dk_at dksX2_number_0 1 rfl rfl)
theorem dX2_number_2 : decode cX2_number 2 = .ok (.invokevirtual 93, 3) := dk_182 0 93 (dk_at dksX2_number_0 2 rfl rfl)
theorem dX2_number_5 : decode cX2_number 5 = .ok (.aload_n 0, 1) := dk_42 (dk_at dksX2_number_0 5 rfl rfl)
theorem dX2_number_6 : decode cX2_number 6 = .ok (.iload_n 2, 1) := dk_28 (dk_at dksX2_number_0 6 rfl rfl)
theorem dX2_number_7 : decode cX2_number 7 = .ok (.iload_n 3, 1) := dk_29 (dk_at dksX2_number_0 7 rfl rfl)
theorem dX2_number_8 : decode cX2_number 8 = .ok (.invokevirtual 96, 3) := dk_182 0 96 (dk_at dksX2_number_0 8 rfl rfl)
theorem dX2_number_11 : decode cX2_number 11 = .ok (.ireturn, 1) := dk_172 (dk_at dksX2_number_0 11 rfl rfl)
abbrev cX2_number_2 : ByteArray := prog_14_method_11_code
def yX2_number_2 : MethodName := ⟨RX2, "number", "(II)I"⟩
def dkwX2_number_2_5 : List UInt8 := [191, 29, 172]
abbrev dktX2_number_2_5 : List UInt8 := dkwX2_number_2_5 ++ []
def dkwX2_number_2_4 : List UInt8 := [181, 0, 36, 167, 255, 192, 29, 27, 28, 184, 0, 89, 154, 0, 13, 42, 5, 42, 180, 0, 61, 182, 0, 47]
abbrev dktX2_number_2_4 : List UInt8 := dkwX2_number_2_4 ++ dktX2_number_2_5
def dkwX2_number_2_3 : List UInt8 := [16, 10, 29, 104, 42, 42, 180, 0, 36, 182, 0, 39, 96, 16, 48, 100, 62, 42, 89, 180, 0, 36, 4, 96]
abbrev dktX2_number_2_3 : List UInt8 := dkwX2_number_2_3 ++ dktX2_number_2_4
def dkwX2_number_2_2 : List UInt8 := [42, 180, 0, 36, 42, 180, 0, 61, 100, 7, 160, 0, 13, 42, 4, 42, 180, 0, 36, 182, 0, 47, 191]
abbrev dktX2_number_2_2 : List UInt8 := dkwX2_number_2_2 ++ dktX2_number_2_3
def dkwX2_number_2_1 : List UInt8 := [42, 42, 180, 0, 36, 181, 0, 61, 3, 62, 42, 42, 180, 0, 36, 182, 0, 39, 184, 0, 55, 153, 0, 56]
abbrev dktX2_number_2_1 : List UInt8 := dkwX2_number_2_1 ++ dktX2_number_2_2
def dkwX2_number_2_0 : List UInt8 := [42, 182, 0, 43, 184, 0, 55, 154, 0, 13, 42, 4, 42, 180, 0, 36, 182, 0, 47, 191, 42, 182, 0, 58]
abbrev dktX2_number_2_0 : List UInt8 := dkwX2_number_2_0 ++ dktX2_number_2_1
theorem dksX2_number_2_0 : cX2_number_2.data.toList.drop 0 = dktX2_number_2_0 := by decide +kernel
theorem dksX2_number_2_1 : cX2_number_2.data.toList.drop 24 = dktX2_number_2_1 := dk_seg dksX2_number_2_0 24 rfl rfl
theorem dksX2_number_2_2 : cX2_number_2.data.toList.drop 48 = dktX2_number_2_2 := dk_seg dksX2_number_2_1 24 rfl rfl
theorem dksX2_number_2_3 : cX2_number_2.data.toList.drop 71 = dktX2_number_2_3 := dk_seg dksX2_number_2_2 23 rfl rfl
theorem dksX2_number_2_4 : cX2_number_2.data.toList.drop 95 = dktX2_number_2_4 := dk_seg dksX2_number_2_3 24 rfl rfl
theorem dksX2_number_2_5 : cX2_number_2.data.toList.drop 119 = dktX2_number_2_5 := dk_seg dksX2_number_2_4 24 rfl rfl
theorem dX2_number_2_0 : decode cX2_number_2 0 = .ok (.aload_n 0, 1) := dk_42 (dk_at dksX2_number_2_0 0 rfl rfl)
theorem dX2_number_2_1 : decode cX2_number_2 1 = .ok (.invokevirtual 43, 3) := dk_182 0 43 (dk_at dksX2_number_2_0 1 rfl rfl)
theorem dX2_number_2_4 : decode cX2_number_2 4 = .ok (.invokestatic 55, 3) := dk_184 0 55 (dk_at dksX2_number_2_0 4 rfl rfl)
theorem dX2_number_2_7 : decode cX2_number_2 7 = .ok (.ifCond .ne 13, 3) := dk_154 0 13 (dk_at dksX2_number_2_0 7 rfl rfl)
theorem dX2_number_2_10 : decode cX2_number_2 10 = .ok (.aload_n 0, 1) := dk_42 (dk_at dksX2_number_2_0 10 rfl rfl)
theorem dX2_number_2_11 : decode cX2_number_2 11 = .ok (.iconst 1, 1) := dk_4 (dk_at dksX2_number_2_0 11 rfl rfl)
theorem dX2_number_2_12 : decode cX2_number_2 12 = .ok (.aload_n 0, 1) := dk_42 (dk_at dksX2_number_2_0 12 rfl rfl)
theorem dX2_number_2_13 : decode cX2_number_2 13 = .ok (.getfield 36, 3) := dk_180 0 36 (dk_at dksX2_number_2_0 13 rfl rfl)
theorem dX2_number_2_16 : decode cX2_number_2 16 = .ok (.invokevirtual 47, 3) := dk_182 0 47 (dk_at dksX2_number_2_0 16 rfl rfl)
theorem dX2_number_2_19 : decode cX2_number_2 19 = .ok (.athrow, 1) := dk_191 (dk_at dksX2_number_2_0 19 rfl rfl)
theorem dX2_number_2_20 : decode cX2_number_2 20 = .ok (.aload_n 0, 1) := dk_42 (dk_at dksX2_number_2_0 20 rfl rfl)
theorem dX2_number_2_21 : decode cX2_number_2 21 = .ok (.invokevirtual 58, 3) := dk_182 0 58 (dk_at dksX2_number_2_0 21 rfl rfl)
theorem dX2_number_2_24 : decode cX2_number_2 24 = .ok (.aload_n 0, 1) := dk_42 (dk_at dksX2_number_2_1 0 rfl rfl)
theorem dX2_number_2_25 : decode cX2_number_2 25 = .ok (.aload_n 0, 1) := dk_42 (dk_at dksX2_number_2_1 1 rfl rfl)
theorem dX2_number_2_26 : decode cX2_number_2 26 = .ok (.getfield 36, 3) := dk_180 0 36 (dk_at dksX2_number_2_1 2 rfl rfl)
theorem dX2_number_2_29 : decode cX2_number_2 29 = .ok (.putfield 61, 3) := dk_181 0 61 (dk_at dksX2_number_2_1 5 rfl rfl)
theorem dX2_number_2_32 : decode cX2_number_2 32 = .ok (.iconst 0, 1) := dk_3 (dk_at dksX2_number_2_1 8 rfl rfl)
theorem dX2_number_2_33 : decode cX2_number_2 33 = .ok (.istore_n 3, 1) := dk_62 (dk_at dksX2_number_2_1 9 rfl rfl)
theorem dX2_number_2_34 : decode cX2_number_2 34 = .ok (.aload_n 0, 1) := dk_42 (dk_at dksX2_number_2_1 10 rfl rfl)
theorem dX2_number_2_35 : decode cX2_number_2 35 = .ok (.aload_n 0, 1) := dk_42 (dk_at dksX2_number_2_1 11 rfl rfl)
theorem dX2_number_2_36 : decode cX2_number_2 36 = .ok (.getfield 36, 3) := dk_180 0 36 (dk_at dksX2_number_2_1 12 rfl rfl)
theorem dX2_number_2_39 : decode cX2_number_2 39 = .ok (.invokevirtual 39, 3) := dk_182 0 39 (dk_at dksX2_number_2_1 15 rfl rfl)
theorem dX2_number_2_42 : decode cX2_number_2 42 = .ok (.invokestatic 55, 3) := dk_184 0 55 (dk_at dksX2_number_2_1 18 rfl rfl)
theorem dX2_number_2_45 : decode cX2_number_2 45 = .ok (.ifCond .eq 56, 3) := dk_153 0 56 (dk_at dksX2_number_2_1 21 rfl rfl)
theorem dX2_number_2_48 : decode cX2_number_2 48 = .ok (.aload_n 0, 1) := dk_42 (dk_at dksX2_number_2_2 0 rfl rfl)
theorem dX2_number_2_49 : decode cX2_number_2 49 = .ok (.getfield 36, 3) := dk_180 0 36 (dk_at dksX2_number_2_2 1 rfl rfl)
theorem dX2_number_2_52 : decode cX2_number_2 52 = .ok (.aload_n 0, 1) := dk_42 (dk_at dksX2_number_2_2 4 rfl rfl)
theorem dX2_number_2_53 : decode cX2_number_2 53 = .ok (.getfield 61, 3) := dk_180 0 61 (dk_at dksX2_number_2_2 5 rfl rfl)
theorem dX2_number_2_56 : decode cX2_number_2 56 = .ok (.isub, 1) := dk_100 (dk_at dksX2_number_2_2 8 rfl rfl)
theorem dX2_number_2_57 : decode cX2_number_2 57 = .ok (.iconst 4, 1) := dk_7 (dk_at dksX2_number_2_2 9 rfl rfl)
theorem dX2_number_2_58 : decode cX2_number_2 58 = .ok (.if_icmp .ne 13, 3) := dk_160 0 13 (dk_at dksX2_number_2_2 10 rfl rfl)
theorem dX2_number_2_61 : decode cX2_number_2 61 = .ok (.aload_n 0, 1) := dk_42 (dk_at dksX2_number_2_2 13 rfl rfl)
theorem dX2_number_2_62 : decode cX2_number_2 62 = .ok (.iconst 1, 1) := dk_4 (dk_at dksX2_number_2_2 14 rfl rfl)
theorem dX2_number_2_63 : decode cX2_number_2 63 = .ok (.aload_n 0, 1) := dk_42 (dk_at dksX2_number_2_2 15 rfl rfl)
theorem dX2_number_2_64 : decode cX2_number_2 64 = .ok (.getfield 36, 3) := dk_180 0 36 (dk_at dksX2_number_2_2 16 rfl rfl)
theorem dX2_number_2_67 : decode cX2_number_2 67 = .ok (.invokevirtual 47, 3) := dk_182 0 47 (dk_at dksX2_number_2_2 19 rfl rfl)
theorem dX2_number_2_70 : decode cX2_number_2 70 = .ok (.athrow, 1) := dk_191 (dk_at dksX2_number_2_2 22 rfl rfl)
theorem dX2_number_2_71 : decode cX2_number_2 71 = .ok (.bipush 10, 2) := dk_16 10 (dk_at dksX2_number_2_3 0 rfl rfl)
theorem dX2_number_2_73 : decode cX2_number_2 73 = .ok (.iload_n 3, 1) := dk_29 (dk_at dksX2_number_2_3 2 rfl rfl)
theorem dX2_number_2_74 : decode cX2_number_2 74 = .ok (.imul, 1) := dk_104 (dk_at dksX2_number_2_3 3 rfl rfl)
theorem dX2_number_2_75 : decode cX2_number_2 75 = .ok (.aload_n 0, 1) := dk_42 (dk_at dksX2_number_2_3 4 rfl rfl)
theorem dX2_number_2_76 : decode cX2_number_2 76 = .ok (.aload_n 0, 1) := dk_42 (dk_at dksX2_number_2_3 5 rfl rfl)
theorem dX2_number_2_77 : decode cX2_number_2 77 = .ok (.getfield 36, 3) := dk_180 0 36 (dk_at dksX2_number_2_3 6 rfl rfl)
theorem dX2_number_2_80 : decode cX2_number_2 80 = .ok (.invokevirtual 39, 3) := dk_182 0 39 (dk_at dksX2_number_2_3 9 rfl rfl)
theorem dX2_number_2_83 : decode cX2_number_2 83 = .ok (.iadd, 1) := dk_96 (dk_at dksX2_number_2_3 12 rfl rfl)
theorem dX2_number_2_84 : decode cX2_number_2 84 = .ok (.bipush 48, 2) := dk_16 48 (dk_at dksX2_number_2_3 13 rfl rfl)
theorem dX2_number_2_86 : decode cX2_number_2 86 = .ok (.isub, 1) := dk_100 (dk_at dksX2_number_2_3 15 rfl rfl)
theorem dX2_number_2_87 : decode cX2_number_2 87 = .ok (.istore_n 3, 1) := dk_62 (dk_at dksX2_number_2_3 16 rfl rfl)
theorem dX2_number_2_88 : decode cX2_number_2 88 = .ok (.aload_n 0, 1) := dk_42 (dk_at dksX2_number_2_3 17 rfl rfl)
theorem dX2_number_2_89 : decode cX2_number_2 89 = .ok (.dup, 1) := dk_89 (dk_at dksX2_number_2_3 18 rfl rfl)
theorem dX2_number_2_90 : decode cX2_number_2 90 = .ok (.getfield 36, 3) := dk_180 0 36 (dk_at dksX2_number_2_3 19 rfl rfl)
theorem dX2_number_2_93 : decode cX2_number_2 93 = .ok (.iconst 1, 1) := dk_4 (dk_at dksX2_number_2_3 22 rfl rfl)
theorem dX2_number_2_94 : decode cX2_number_2 94 = .ok (.iadd, 1) := dk_96 (dk_at dksX2_number_2_3 23 rfl rfl)
theorem dX2_number_2_95 : decode cX2_number_2 95 = .ok (.putfield 36, 3) := dk_181 0 36 (dk_at dksX2_number_2_4 0 rfl rfl)
theorem dX2_number_2_98 : decode cX2_number_2 98 = .ok (.goto (-64), 3) := dk_167 255 192 (dk_at dksX2_number_2_4 3 rfl rfl)
theorem dX2_number_2_101 : decode cX2_number_2 101 = .ok (.iload_n 3, 1) := dk_29 (dk_at dksX2_number_2_4 6 rfl rfl)
theorem dX2_number_2_102 : decode cX2_number_2 102 = .ok (.iload_n 1, 1) := dk_27 (dk_at dksX2_number_2_4 7 rfl rfl)
theorem dX2_number_2_103 : decode cX2_number_2 103 = .ok (.iload_n 2, 1) := dk_28 (dk_at dksX2_number_2_4 8 rfl rfl)
theorem dX2_number_2_104 : decode cX2_number_2 104 = .ok (.invokestatic 89, 3) := dk_184 0 89 (dk_at dksX2_number_2_4 9 rfl rfl)
theorem dX2_number_2_107 : decode cX2_number_2 107 = .ok (.ifCond .ne 13, 3) := dk_154 0 13 (dk_at dksX2_number_2_4 12 rfl rfl)
theorem dX2_number_2_110 : decode cX2_number_2 110 = .ok (.aload_n 0, 1) := dk_42 (dk_at dksX2_number_2_4 15 rfl rfl)
theorem dX2_number_2_111 : decode cX2_number_2 111 = .ok (.iconst 2, 1) := dk_5 (dk_at dksX2_number_2_4 16 rfl rfl)
theorem dX2_number_2_112 : decode cX2_number_2 112 = .ok (.aload_n 0, 1) := dk_42 (dk_at dksX2_number_2_4 17 rfl rfl)
theorem dX2_number_2_113 : decode cX2_number_2 113 = .ok (.getfield 61, 3) := dk_180 0 61 (dk_at dksX2_number_2_4 18 rfl rfl)
theorem dX2_number_2_116 : decode cX2_number_2 116 = .ok (.invokevirtual 47, 3) := dk_182 0 47 (dk_at dksX2_number_2_4 21 rfl rfl)
theorem dX2_number_2_119 : decode cX2_number_2 119 = .ok (.athrow, 1) := dk_191 (dk_at dksX2_number_2_5 0 rfl rfl)
theorem dX2_number_2_120 : decode cX2_number_2 120 = .ok (.iload_n 3, 1) := dk_29 (dk_at dksX2_number_2_5 1 rfl rfl)
theorem dX2_number_2_121 : decode cX2_number_2 121 = .ok (.ireturn, 1) := dk_172 (dk_at dksX2_number_2_5 2 rfl rfl)
abbrev cX2_sum : ByteArray := prog_14_method_21_code
def yX2_sum : MethodName := ⟨RX2, "sum", "()LBreathTown$Value;"⟩
def dkwX2_sum_3 : List UInt8 := [167, 255, 206, 43, 176]
abbrev dktX2_sum_3 : List UInt8 := dkwX2_sum_3 ++ []
def dkwX2_sum_2 : List UInt8 := [16, 45, 182, 0, 219, 153, 0, 16, 43, 16, 45, 42, 182, 0, 213, 182, 0, 216, 167, 255, 211, 3, 61]
abbrev dktX2_sum_2 : List UInt8 := dkwX2_sum_2 ++ dktX2_sum_3
def dkwX2_sum_1 : List UInt8 := [42, 16, 43, 182, 0, 219, 153, 0, 16, 43, 16, 43, 42, 182, 0, 213, 182, 0, 216, 167, 255, 233, 42]
abbrev dktX2_sum_1 : List UInt8 := dkwX2_sum_1 ++ dktX2_sum_2
def dkwX2_sum_0 : List UInt8 := [187, 0, 210, 89, 183, 0, 212, 76, 43, 16, 43, 42, 182, 0, 213, 182, 0, 216, 4, 61, 28, 153, 0, 52]
abbrev dktX2_sum_0 : List UInt8 := dkwX2_sum_0 ++ dktX2_sum_1
theorem dksX2_sum_0 : cX2_sum.data.toList.drop 0 = dktX2_sum_0 := by decide +kernel
theorem dksX2_sum_1 : cX2_sum.data.toList.drop 24 = dktX2_sum_1 := dk_seg dksX2_sum_0 24 rfl rfl
theorem dksX2_sum_2 : cX2_sum.data.toList.drop 47 = dktX2_sum_2 := dk_seg dksX2_sum_1 23 rfl rfl
theorem dksX2_sum_3 : cX2_sum.data.toList.drop 70 = dktX2_sum_3 := dk_seg dksX2_sum_2 23 rfl rfl
theorem dX2_sum_0 : decode cX2_sum 0 = .ok (.new 210, 3) := dk_187 0 210 (dk_at dksX2_sum_0 0 rfl rfl)
theorem dX2_sum_3 : decode cX2_sum 3 = .ok (.dup, 1) := dk_89 (dk_at dksX2_sum_0 3 rfl rfl)
theorem dX2_sum_4 : decode cX2_sum 4 = .ok (.invokespecial 212, 3) := dk_183 0 212 (dk_at dksX2_sum_0 4 rfl rfl)
theorem dX2_sum_7 : decode cX2_sum 7 = .ok (.astore_n 1, 1) := dk_76 (dk_at dksX2_sum_0 7 rfl rfl)
theorem dX2_sum_8 : decode cX2_sum 8 = .ok (.aload_n 1, 1) := dk_43 (dk_at dksX2_sum_0 8 rfl rfl)
theorem dX2_sum_9 : decode cX2_sum 9 = .ok (.bipush 43, 2) := dk_16 43 (dk_at dksX2_sum_0 9 rfl rfl)
theorem dX2_sum_11 : decode cX2_sum 11 = .ok (.aload_n 0, 1) := dk_42 (dk_at dksX2_sum_0 11 rfl rfl)
theorem dX2_sum_12 : decode cX2_sum 12 = .ok (.invokevirtual 213, 3) := dk_182 0 213 (dk_at dksX2_sum_0 12 rfl rfl)
theorem dX2_sum_15 : decode cX2_sum 15 = .ok (.invokevirtual 216, 3) := dk_182 0 216 (dk_at dksX2_sum_0 15 rfl rfl)
theorem dX2_sum_18 : decode cX2_sum 18 = .ok (.iconst 1, 1) := dk_4 (dk_at dksX2_sum_0 18 rfl rfl)
theorem dX2_sum_19 : decode cX2_sum 19 = .ok (.istore_n 2, 1) := dk_61 (dk_at dksX2_sum_0 19 rfl rfl)
theorem dX2_sum_20 : decode cX2_sum 20 = .ok (.iload_n 2, 1) := dk_28 (dk_at dksX2_sum_0 20 rfl rfl)
theorem dX2_sum_21 : decode cX2_sum 21 = .ok (.ifCond .eq 52, 3) := dk_153 0 52 (dk_at dksX2_sum_0 21 rfl rfl)
theorem dX2_sum_24 : decode cX2_sum 24 = .ok (.aload_n 0, 1) := dk_42 (dk_at dksX2_sum_1 0 rfl rfl)
theorem dX2_sum_25 : decode cX2_sum 25 = .ok (.bipush 43, 2) := dk_16 43 (dk_at dksX2_sum_1 1 rfl rfl)
theorem dX2_sum_27 : decode cX2_sum 27 = .ok (.invokevirtual 219, 3) := dk_182 0 219 (dk_at dksX2_sum_1 3 rfl rfl)
theorem dX2_sum_30 : decode cX2_sum 30 = .ok (.ifCond .eq 16, 3) := dk_153 0 16 (dk_at dksX2_sum_1 6 rfl rfl)
theorem dX2_sum_33 : decode cX2_sum 33 = .ok (.aload_n 1, 1) := dk_43 (dk_at dksX2_sum_1 9 rfl rfl)
theorem dX2_sum_34 : decode cX2_sum 34 = .ok (.bipush 43, 2) := dk_16 43 (dk_at dksX2_sum_1 10 rfl rfl)
theorem dX2_sum_36 : decode cX2_sum 36 = .ok (.aload_n 0, 1) := dk_42 (dk_at dksX2_sum_1 12 rfl rfl)
theorem dX2_sum_37 : decode cX2_sum 37 = .ok (.invokevirtual 213, 3) := dk_182 0 213 (dk_at dksX2_sum_1 13 rfl rfl)
theorem dX2_sum_40 : decode cX2_sum 40 = .ok (.invokevirtual 216, 3) := dk_182 0 216 (dk_at dksX2_sum_1 16 rfl rfl)
theorem dX2_sum_43 : decode cX2_sum 43 = .ok (.goto (-23), 3) := dk_167 255 233 (dk_at dksX2_sum_1 19 rfl rfl)
theorem dX2_sum_46 : decode cX2_sum 46 = .ok (.aload_n 0, 1) := dk_42 (dk_at dksX2_sum_1 22 rfl rfl)
theorem dX2_sum_47 : decode cX2_sum 47 = .ok (.bipush 45, 2) := dk_16 45 (dk_at dksX2_sum_2 0 rfl rfl)
theorem dX2_sum_49 : decode cX2_sum 49 = .ok (.invokevirtual 219, 3) := dk_182 0 219 (dk_at dksX2_sum_2 2 rfl rfl)
theorem dX2_sum_52 : decode cX2_sum 52 = .ok (.ifCond .eq 16, 3) := dk_153 0 16 (dk_at dksX2_sum_2 5 rfl rfl)
theorem dX2_sum_55 : decode cX2_sum 55 = .ok (.aload_n 1, 1) := dk_43 (dk_at dksX2_sum_2 8 rfl rfl)
theorem dX2_sum_56 : decode cX2_sum 56 = .ok (.bipush 45, 2) := dk_16 45 (dk_at dksX2_sum_2 9 rfl rfl)
theorem dX2_sum_58 : decode cX2_sum 58 = .ok (.aload_n 0, 1) := dk_42 (dk_at dksX2_sum_2 11 rfl rfl)
theorem dX2_sum_59 : decode cX2_sum 59 = .ok (.invokevirtual 213, 3) := dk_182 0 213 (dk_at dksX2_sum_2 12 rfl rfl)
theorem dX2_sum_62 : decode cX2_sum 62 = .ok (.invokevirtual 216, 3) := dk_182 0 216 (dk_at dksX2_sum_2 15 rfl rfl)
theorem dX2_sum_65 : decode cX2_sum 65 = .ok (.goto (-45), 3) := dk_167 255 211 (dk_at dksX2_sum_2 18 rfl rfl)
theorem dX2_sum_68 : decode cX2_sum 68 = .ok (.iconst 0, 1) := dk_3 (dk_at dksX2_sum_2 21 rfl rfl)
theorem dX2_sum_69 : decode cX2_sum 69 = .ok (.istore_n 2, 1) := dk_61 (dk_at dksX2_sum_2 22 rfl rfl)
theorem dX2_sum_70 : decode cX2_sum 70 = .ok (.goto (-50), 3) := dk_167 255 206 (dk_at dksX2_sum_3 0 rfl rfl)
theorem dX2_sum_73 : decode cX2_sum 73 = .ok (.aload_n 1, 1) := dk_43 (dk_at dksX2_sum_3 3 rfl rfl)
theorem dX2_sum_74 : decode cX2_sum 74 = .ok (.areturn, 1) := dk_176 (dk_at dksX2_sum_3 4 rfl rfl)
abbrev cX2_product : ByteArray := prog_14_method_22_code
def yX2_product : MethodName := ⟨RX2, "product", "()LBreathTown$Value;"⟩
def dkwX2_product_3 : List UInt8 := [167, 255, 206, 43, 176]
abbrev dktX2_product_3 : List UInt8 := dkwX2_product_3 ++ []
def dkwX2_product_2 : List UInt8 := [16, 47, 182, 0, 219, 153, 0, 16, 43, 16, 47, 42, 182, 0, 221, 182, 0, 216, 167, 255, 211, 3, 61]
abbrev dktX2_product_2 : List UInt8 := dkwX2_product_2 ++ dktX2_product_3
def dkwX2_product_1 : List UInt8 := [42, 16, 42, 182, 0, 219, 153, 0, 16, 43, 16, 42, 42, 182, 0, 221, 182, 0, 216, 167, 255, 233, 42]
abbrev dktX2_product_1 : List UInt8 := dkwX2_product_1 ++ dktX2_product_2
def dkwX2_product_0 : List UInt8 := [187, 0, 210, 89, 183, 0, 212, 76, 43, 16, 42, 42, 182, 0, 221, 182, 0, 216, 4, 61, 28, 153, 0, 52]
abbrev dktX2_product_0 : List UInt8 := dkwX2_product_0 ++ dktX2_product_1
theorem dksX2_product_0 : cX2_product.data.toList.drop 0 = dktX2_product_0 := by decide +kernel
theorem dksX2_product_1 : cX2_product.data.toList.drop 24 = dktX2_product_1 := dk_seg dksX2_product_0 24 rfl rfl
theorem dksX2_product_2 : cX2_product.data.toList.drop 47 = dktX2_product_2 := dk_seg dksX2_product_1 23 rfl rfl
theorem dksX2_product_3 : cX2_product.data.toList.drop 70 = dktX2_product_3 := dk_seg dksX2_product_2 23 rfl rfl
theorem dX2_product_0 : decode cX2_product 0 = .ok (.new 210, 3) := dk_187 0 210 (dk_at dksX2_product_0 0 rfl rfl)
theorem dX2_product_3 : decode cX2_product 3 = .ok (.dup, 1) := dk_89 (dk_at dksX2_product_0 3 rfl rfl)
theorem dX2_product_4 : decode cX2_product 4 = .ok (.invokespecial 212, 3) := dk_183 0 212 (dk_at dksX2_product_0 4 rfl rfl)
theorem dX2_product_7 : decode cX2_product 7 = .ok (.astore_n 1, 1) := dk_76 (dk_at dksX2_product_0 7 rfl rfl)
theorem dX2_product_8 : decode cX2_product 8 = .ok (.aload_n 1, 1) := dk_43 (dk_at dksX2_product_0 8 rfl rfl)
theorem dX2_product_9 : decode cX2_product 9 = .ok (.bipush 42, 2) := dk_16 42 (dk_at dksX2_product_0 9 rfl rfl)
theorem dX2_product_11 : decode cX2_product 11 = .ok (.aload_n 0, 1) := dk_42 (dk_at dksX2_product_0 11 rfl rfl)
theorem dX2_product_12 : decode cX2_product 12 = .ok (.invokevirtual 221, 3) := dk_182 0 221 (dk_at dksX2_product_0 12 rfl rfl)
theorem dX2_product_15 : decode cX2_product 15 = .ok (.invokevirtual 216, 3) := dk_182 0 216 (dk_at dksX2_product_0 15 rfl rfl)
theorem dX2_product_18 : decode cX2_product 18 = .ok (.iconst 1, 1) := dk_4 (dk_at dksX2_product_0 18 rfl rfl)
theorem dX2_product_19 : decode cX2_product 19 = .ok (.istore_n 2, 1) := dk_61 (dk_at dksX2_product_0 19 rfl rfl)
theorem dX2_product_20 : decode cX2_product 20 = .ok (.iload_n 2, 1) := dk_28 (dk_at dksX2_product_0 20 rfl rfl)
theorem dX2_product_21 : decode cX2_product 21 = .ok (.ifCond .eq 52, 3) := dk_153 0 52 (dk_at dksX2_product_0 21 rfl rfl)
theorem dX2_product_24 : decode cX2_product 24 = .ok (.aload_n 0, 1) := dk_42 (dk_at dksX2_product_1 0 rfl rfl)
theorem dX2_product_25 : decode cX2_product 25 = .ok (.bipush 42, 2) := dk_16 42 (dk_at dksX2_product_1 1 rfl rfl)
theorem dX2_product_27 : decode cX2_product 27 = .ok (.invokevirtual 219, 3) := dk_182 0 219 (dk_at dksX2_product_1 3 rfl rfl)
theorem dX2_product_30 : decode cX2_product 30 = .ok (.ifCond .eq 16, 3) := dk_153 0 16 (dk_at dksX2_product_1 6 rfl rfl)
theorem dX2_product_33 : decode cX2_product 33 = .ok (.aload_n 1, 1) := dk_43 (dk_at dksX2_product_1 9 rfl rfl)
theorem dX2_product_34 : decode cX2_product 34 = .ok (.bipush 42, 2) := dk_16 42 (dk_at dksX2_product_1 10 rfl rfl)
theorem dX2_product_36 : decode cX2_product 36 = .ok (.aload_n 0, 1) := dk_42 (dk_at dksX2_product_1 12 rfl rfl)
theorem dX2_product_37 : decode cX2_product 37 = .ok (.invokevirtual 221, 3) := dk_182 0 221 (dk_at dksX2_product_1 13 rfl rfl)
theorem dX2_product_40 : decode cX2_product 40 = .ok (.invokevirtual 216, 3) := dk_182 0 216 (dk_at dksX2_product_1 16 rfl rfl)
theorem dX2_product_43 : decode cX2_product 43 = .ok (.goto (-23), 3) := dk_167 255 233 (dk_at dksX2_product_1 19 rfl rfl)
theorem dX2_product_46 : decode cX2_product 46 = .ok (.aload_n 0, 1) := dk_42 (dk_at dksX2_product_1 22 rfl rfl)
theorem dX2_product_47 : decode cX2_product 47 = .ok (.bipush 47, 2) := dk_16 47 (dk_at dksX2_product_2 0 rfl rfl)
theorem dX2_product_49 : decode cX2_product 49 = .ok (.invokevirtual 219, 3) := dk_182 0 219 (dk_at dksX2_product_2 2 rfl rfl)
theorem dX2_product_52 : decode cX2_product 52 = .ok (.ifCond .eq 16, 3) := dk_153 0 16 (dk_at dksX2_product_2 5 rfl rfl)
theorem dX2_product_55 : decode cX2_product 55 = .ok (.aload_n 1, 1) := dk_43 (dk_at dksX2_product_2 8 rfl rfl)
theorem dX2_product_56 : decode cX2_product 56 = .ok (.bipush 47, 2) := dk_16 47 (dk_at dksX2_product_2 9 rfl rfl)
theorem dX2_product_58 : decode cX2_product 58 = .ok (.aload_n 0, 1) := dk_42 (dk_at dksX2_product_2 11 rfl rfl)
theorem dX2_product_59 : decode cX2_product 59 = .ok (.invokevirtual 221, 3) := dk_182 0 221 (dk_at dksX2_product_2 12 rfl rfl)
theorem dX2_product_62 : decode cX2_product 62 = .ok (.invokevirtual 216, 3) := dk_182 0 216 (dk_at dksX2_product_2 15 rfl rfl)
theorem dX2_product_65 : decode cX2_product 65 = .ok (.goto (-45), 3) := dk_167 255 211 (dk_at dksX2_product_2 18 rfl rfl)
theorem dX2_product_68 : decode cX2_product 68 = .ok (.iconst 0, 1) := dk_3 (dk_at dksX2_product_2 21 rfl rfl)
theorem dX2_product_69 : decode cX2_product 69 = .ok (.istore_n 2, 1) := dk_61 (dk_at dksX2_product_2 22 rfl rfl)
theorem dX2_product_70 : decode cX2_product 70 = .ok (.goto (-50), 3) := dk_167 255 206 (dk_at dksX2_product_3 0 rfl rfl)
theorem dX2_product_73 : decode cX2_product 73 = .ok (.aload_n 1, 1) := dk_43 (dk_at dksX2_product_3 3 rfl rfl)
theorem dX2_product_74 : decode cX2_product 74 = .ok (.areturn, 1) := dk_176 (dk_at dksX2_product_3 4 rfl rfl)
abbrev cX2_atom : ByteArray := prog_14_method_25_code
def yX2_atom : MethodName := ⟨RX2, "atom", "()LBreathTown$Value;"⟩
def dkwX2_atom_7 : List UInt8 := [182, 0, 232, 176]
abbrev dktX2_atom_7 : List UInt8 := dkwX2_atom_7 ++ []
def dkwX2_atom_6 : List UInt8 := [4, 42, 180, 0, 61, 182, 0, 47, 191, 42, 43, 18, 254, 182, 0, 74, 153, 0, 7, 4, 167, 0, 4, 5]
abbrev dktX2_atom_6 : List UInt8 := dkwX2_atom_6 ++ dktX2_atom_7
def dkwX2_atom_5 : List UInt8 := [182, 0, 251, 176, 43, 18, 254, 182, 0, 74, 154, 0, 23, 43, 19, 1, 0, 182, 0, 74, 154, 0, 13, 42]
abbrev dktX2_atom_5 : List UInt8 := dkwX2_atom_5 ++ dktX2_atom_6
def dkwX2_atom_4 : List UInt8 := [153, 0, 13, 43, 178, 0, 248, 184, 0, 82, 167, 0, 4, 2, 61, 28, 2, 159, 0, 9, 42, 28]
abbrev dktX2_atom_4 : List UInt8 := dkwX2_atom_4 ++ dktX2_atom_5
def dkwX2_atom_3 : List UInt8 := [162, 0, 19, 167, 0, 7, 28, 158, 0, 12, 187, 0, 244, 89, 28, 183, 0, 246, 176, 42, 180, 0, 131]
abbrev dktX2_atom_3 : List UInt8 := dkwX2_atom_3 ++ dktX2_atom_4
def dkwX2_atom_2 : List UInt8 := [76, 43, 178, 0, 241, 184, 0, 82, 61, 28, 2, 159, 0, 31, 42, 180, 0, 131, 153, 0, 11, 28, 6]
abbrev dktX2_atom_2 : List UInt8 := dkwX2_atom_2 ++ dktX2_atom_3
def dkwX2_atom_1 : List UInt8 := [153, 0, 20, 187, 0, 236, 89, 42, 3, 17, 39, 15, 182, 0, 96, 133, 183, 0, 238, 176, 42, 182, 0, 70]
abbrev dktX2_atom_1 : List UInt8 := dkwX2_atom_1 ++ dktX2_atom_2
def dkwX2_atom_0 : List UInt8 := [42, 182, 0, 43, 16, 40, 160, 0, 9, 42, 3, 182, 0, 232, 176, 42, 182, 0, 43, 184, 0, 55]
abbrev dktX2_atom_0 : List UInt8 := dkwX2_atom_0 ++ dktX2_atom_1
theorem dksX2_atom_0 : cX2_atom.data.toList.drop 0 = dktX2_atom_0 := by decide +kernel
theorem dksX2_atom_1 : cX2_atom.data.toList.drop 22 = dktX2_atom_1 := dk_seg dksX2_atom_0 22 rfl rfl
theorem dksX2_atom_2 : cX2_atom.data.toList.drop 46 = dktX2_atom_2 := dk_seg dksX2_atom_1 24 rfl rfl
theorem dksX2_atom_3 : cX2_atom.data.toList.drop 69 = dktX2_atom_3 := dk_seg dksX2_atom_2 23 rfl rfl
theorem dksX2_atom_4 : cX2_atom.data.toList.drop 92 = dktX2_atom_4 := dk_seg dksX2_atom_3 23 rfl rfl
theorem dksX2_atom_5 : cX2_atom.data.toList.drop 114 = dktX2_atom_5 := dk_seg dksX2_atom_4 22 rfl rfl
theorem dksX2_atom_6 : cX2_atom.data.toList.drop 138 = dktX2_atom_6 := dk_seg dksX2_atom_5 24 rfl rfl
theorem dksX2_atom_7 : cX2_atom.data.toList.drop 162 = dktX2_atom_7 := dk_seg dksX2_atom_6 24 rfl rfl
theorem dX2_atom_0 : decode cX2_atom 0 = .ok (.aload_n 0, 1) := dk_42 (dk_at dksX2_atom_0 0 rfl rfl)
theorem dX2_atom_1 : decode cX2_atom 1 = .ok (.invokevirtual 43, 3) := dk_182 0 43 (dk_at dksX2_atom_0 1 rfl rfl)
theorem dX2_atom_4 : decode cX2_atom 4 = .ok (.bipush 40, 2) := dk_16 40 (dk_at dksX2_atom_0 4 rfl rfl)
theorem dX2_atom_6 : decode cX2_atom 6 = .ok (.if_icmp .ne 9, 3) := dk_160 0 9 (dk_at dksX2_atom_0 6 rfl rfl)
theorem dX2_atom_9 : decode cX2_atom 9 = .ok (.aload_n 0, 1) := dk_42 (dk_at dksX2_atom_0 9 rfl rfl)
theorem dX2_atom_10 : decode cX2_atom 10 = .ok (.iconst 0, 1) := dk_3 (dk_at dksX2_atom_0 10 rfl rfl)
theorem dX2_atom_11 : decode cX2_atom 11 = .ok (.invokevirtual 232, 3) := dk_182 0 232 (dk_at dksX2_atom_0 11 rfl rfl)
theorem dX2_atom_14 : decode cX2_atom 14 = .ok (.areturn, 1) := dk_176 (dk_at dksX2_atom_0 14 rfl rfl)
theorem dX2_atom_15 : decode cX2_atom 15 = .ok (.aload_n 0, 1) := dk_42 (dk_at dksX2_atom_0 15 rfl rfl)
theorem dX2_atom_16 : decode cX2_atom 16 = .ok (.invokevirtual 43, 3) := dk_182 0 43 (dk_at dksX2_atom_0 16 rfl rfl)
theorem dX2_atom_19 : decode cX2_atom 19 = .ok (.invokestatic 55, 3) := dk_184 0 55 (dk_at dksX2_atom_0 19 rfl rfl)
theorem dX2_atom_22 : decode cX2_atom 22 = .ok (.ifCond .eq 20, 3) := dk_153 0 20 (dk_at dksX2_atom_1 0 rfl rfl)
theorem dX2_atom_25 : decode cX2_atom 25 = .ok (.new 236, 3) := dk_187 0 236 (dk_at dksX2_atom_1 3 rfl rfl)
theorem dX2_atom_28 : decode cX2_atom 28 = .ok (.dup, 1) := dk_89 (dk_at dksX2_atom_1 6 rfl rfl)
theorem dX2_atom_29 : decode cX2_atom 29 = .ok (.aload_n 0, 1) := dk_42 (dk_at dksX2_atom_1 7 rfl rfl)
theorem dX2_atom_30 : decode cX2_atom 30 = .ok (.iconst 0, 1) := dk_3 (dk_at dksX2_atom_1 8 rfl rfl)
theorem dX2_atom_31 : decode cX2_atom 31 = .ok (.sipush 9999, 3) := dk_17 39 15 (dk_at dksX2_atom_1 9 rfl rfl)
theorem dX2_atom_34 : decode cX2_atom 34 = .ok (.invokevirtual 96, 3) := dk_182 0 96 (dk_at dksX2_atom_1 12 rfl rfl)
theorem dX2_atom_37 : decode cX2_atom 37 = .ok (.i2l, 1) := dk_133 (dk_at dksX2_atom_1 15 rfl rfl)
theorem dX2_atom_38 : decode cX2_atom 38 = .ok (.invokespecial 238, 3) := dk_183 0 238 (dk_at dksX2_atom_1 16 rfl rfl)
theorem dX2_atom_41 : decode cX2_atom 41 = .ok (.areturn, 1) := dk_176 (dk_at dksX2_atom_1 19 rfl rfl)
theorem dX2_atom_42 : decode cX2_atom 42 = .ok (.aload_n 0, 1) := dk_42 (dk_at dksX2_atom_1 20 rfl rfl)
theorem dX2_atom_43 : decode cX2_atom 43 = .ok (.invokevirtual 70, 3) := dk_182 0 70 (dk_at dksX2_atom_1 21 rfl rfl)
theorem dX2_atom_46 : decode cX2_atom 46 = .ok (.astore_n 1, 1) := dk_76 (dk_at dksX2_atom_2 0 rfl rfl)
theorem dX2_atom_47 : decode cX2_atom 47 = .ok (.aload_n 1, 1) := dk_43 (dk_at dksX2_atom_2 1 rfl rfl)
theorem dX2_atom_48 : decode cX2_atom 48 = .ok (.getstatic 241, 3) := dk_178 0 241 (dk_at dksX2_atom_2 2 rfl rfl)
theorem dX2_atom_51 : decode cX2_atom 51 = .ok (.invokestatic 82, 3) := dk_184 0 82 (dk_at dksX2_atom_2 5 rfl rfl)
theorem dX2_atom_54 : decode cX2_atom 54 = .ok (.istore_n 2, 1) := dk_61 (dk_at dksX2_atom_2 8 rfl rfl)
theorem dX2_atom_55 : decode cX2_atom 55 = .ok (.iload_n 2, 1) := dk_28 (dk_at dksX2_atom_2 9 rfl rfl)
theorem dX2_atom_56 : decode cX2_atom 56 = .ok (.iconst (-1), 1) := dk_2 (dk_at dksX2_atom_2 10 rfl rfl)
theorem dX2_atom_57 : decode cX2_atom 57 = .ok (.if_icmp .eq 31, 3) := dk_159 0 31 (dk_at dksX2_atom_2 11 rfl rfl)
theorem dX2_atom_60 : decode cX2_atom 60 = .ok (.aload_n 0, 1) := dk_42 (dk_at dksX2_atom_2 14 rfl rfl)
theorem dX2_atom_61 : decode cX2_atom 61 = .ok (.getfield 131, 3) := dk_180 0 131 (dk_at dksX2_atom_2 15 rfl rfl)
theorem dX2_atom_64 : decode cX2_atom 64 = .ok (.ifCond .eq 11, 3) := dk_153 0 11 (dk_at dksX2_atom_2 18 rfl rfl)
theorem dX2_atom_67 : decode cX2_atom 67 = .ok (.iload_n 2, 1) := dk_28 (dk_at dksX2_atom_2 21 rfl rfl)
theorem dX2_atom_68 : decode cX2_atom 68 = .ok (.iconst 3, 1) := dk_6 (dk_at dksX2_atom_2 22 rfl rfl)
theorem dX2_atom_69 : decode cX2_atom 69 = .ok (.if_icmp .ge 19, 3) := dk_162 0 19 (dk_at dksX2_atom_3 0 rfl rfl)
theorem dX2_atom_72 : decode cX2_atom 72 = .ok (.goto 7, 3) := dk_167 0 7 (dk_at dksX2_atom_3 3 rfl rfl)
theorem dX2_atom_75 : decode cX2_atom 75 = .ok (.iload_n 2, 1) := dk_28 (dk_at dksX2_atom_3 6 rfl rfl)
theorem dX2_atom_76 : decode cX2_atom 76 = .ok (.ifCond .le 12, 3) := dk_158 0 12 (dk_at dksX2_atom_3 7 rfl rfl)
theorem dX2_atom_79 : decode cX2_atom 79 = .ok (.new 244, 3) := dk_187 0 244 (dk_at dksX2_atom_3 10 rfl rfl)
theorem dX2_atom_82 : decode cX2_atom 82 = .ok (.dup, 1) := dk_89 (dk_at dksX2_atom_3 13 rfl rfl)
theorem dX2_atom_83 : decode cX2_atom 83 = .ok (.iload_n 2, 1) := dk_28 (dk_at dksX2_atom_3 14 rfl rfl)
theorem dX2_atom_84 : decode cX2_atom 84 = .ok (.invokespecial 246, 3) := dk_183 0 246 (dk_at dksX2_atom_3 15 rfl rfl)
theorem dX2_atom_87 : decode cX2_atom 87 = .ok (.areturn, 1) := dk_176 (dk_at dksX2_atom_3 18 rfl rfl)
theorem dX2_atom_88 : decode cX2_atom 88 = .ok (.aload_n 0, 1) := dk_42 (dk_at dksX2_atom_3 19 rfl rfl)
theorem dX2_atom_89 : decode cX2_atom 89 = .ok (.getfield 131, 3) := dk_180 0 131 (dk_at dksX2_atom_3 20 rfl rfl)
theorem dX2_atom_92 : decode cX2_atom 92 = .ok (.ifCond .eq 13, 3) := dk_153 0 13 (dk_at dksX2_atom_4 0 rfl rfl)
theorem dX2_atom_95 : decode cX2_atom 95 = .ok (.aload_n 1, 1) := dk_43 (dk_at dksX2_atom_4 3 rfl rfl)
theorem dX2_atom_96 : decode cX2_atom 96 = .ok (.getstatic 248, 3) := dk_178 0 248 (dk_at dksX2_atom_4 4 rfl rfl)
theorem dX2_atom_99 : decode cX2_atom 99 = .ok (.invokestatic 82, 3) := dk_184 0 82 (dk_at dksX2_atom_4 7 rfl rfl)
theorem dX2_atom_102 : decode cX2_atom 102 = .ok (.goto 4, 3) := dk_167 0 4 (dk_at dksX2_atom_4 10 rfl rfl)
theorem dX2_atom_105 : decode cX2_atom 105 = .ok (.iconst (-1), 1) := dk_2 (dk_at dksX2_atom_4 13 rfl rfl)
theorem dX2_atom_106 : decode cX2_atom 106 = .ok (.istore_n 2, 1) := dk_61 (dk_at dksX2_atom_4 14 rfl rfl)
theorem dX2_atom_107 : decode cX2_atom 107 = .ok (.iload_n 2, 1) := dk_28 (dk_at dksX2_atom_4 15 rfl rfl)
theorem dX2_atom_108 : decode cX2_atom 108 = .ok (.iconst (-1), 1) := dk_2 (dk_at dksX2_atom_4 16 rfl rfl)
theorem dX2_atom_109 : decode cX2_atom 109 = .ok (.if_icmp .eq 9, 3) := dk_159 0 9 (dk_at dksX2_atom_4 17 rfl rfl)
theorem dX2_atom_112 : decode cX2_atom 112 = .ok (.aload_n 0, 1) := dk_42 (dk_at dksX2_atom_4 20 rfl rfl)
theorem dX2_atom_113 : decode cX2_atom 113 = .ok (.iload_n 2, 1) := dk_28 (dk_at dksX2_atom_4 21 rfl rfl)
theorem dX2_atom_114 : decode cX2_atom 114 = .ok (.invokevirtual 251, 3) := dk_182 0 251 (dk_at dksX2_atom_5 0 rfl rfl)
theorem dX2_atom_117 : decode cX2_atom 117 = .ok (.areturn, 1) := dk_176 (dk_at dksX2_atom_5 3 rfl rfl)
theorem dX2_atom_118 : decode cX2_atom 118 = .ok (.aload_n 1, 1) := dk_43 (dk_at dksX2_atom_5 4 rfl rfl)
theorem dX2_atom_119 : decode cX2_atom 119 = .ok (.ldc 254, 2) := dk_18 254 (dk_at dksX2_atom_5 5 rfl rfl)
theorem dX2_atom_121 : decode cX2_atom 121 = .ok (.invokevirtual 74, 3) := dk_182 0 74 (dk_at dksX2_atom_5 7 rfl rfl)
theorem dX2_atom_124 : decode cX2_atom 124 = .ok (.ifCond .ne 23, 3) := dk_154 0 23 (dk_at dksX2_atom_5 10 rfl rfl)
theorem dX2_atom_127 : decode cX2_atom 127 = .ok (.aload_n 1, 1) := dk_43 (dk_at dksX2_atom_5 13 rfl rfl)
theorem dX2_atom_128 : decode cX2_atom 128 = .ok (.ldc_w 256, 3) := dk_19 1 0 (dk_at dksX2_atom_5 14 rfl rfl)
theorem dX2_atom_131 : decode cX2_atom 131 = .ok (.invokevirtual 74, 3) := dk_182 0 74 (dk_at dksX2_atom_5 17 rfl rfl)
theorem dX2_atom_134 : decode cX2_atom 134 = .ok (.ifCond .ne 13, 3) := dk_154 0 13 (dk_at dksX2_atom_5 20 rfl rfl)
theorem dX2_atom_137 : decode cX2_atom 137 = .ok (.aload_n 0, 1) := dk_42 (dk_at dksX2_atom_5 23 rfl rfl)
theorem dX2_atom_138 : decode cX2_atom 138 = .ok (.iconst 1, 1) := dk_4 (dk_at dksX2_atom_6 0 rfl rfl)
theorem dX2_atom_139 : decode cX2_atom 139 = .ok (.aload_n 0, 1) := dk_42 (dk_at dksX2_atom_6 1 rfl rfl)
theorem dX2_atom_140 : decode cX2_atom 140 = .ok (.getfield 61, 3) := dk_180 0 61 (dk_at dksX2_atom_6 2 rfl rfl)
theorem dX2_atom_143 : decode cX2_atom 143 = .ok (.invokevirtual 47, 3) := dk_182 0 47 (dk_at dksX2_atom_6 5 rfl rfl)
theorem dX2_atom_146 : decode cX2_atom 146 = .ok (.athrow, 1) := dk_191 (dk_at dksX2_atom_6 8 rfl rfl)
theorem dX2_atom_147 : decode cX2_atom 147 = .ok (.aload_n 0, 1) := dk_42 (dk_at dksX2_atom_6 9 rfl rfl)
theorem dX2_atom_148 : decode cX2_atom 148 = .ok (.aload_n 1, 1) := dk_43 (dk_at dksX2_atom_6 10 rfl rfl)
theorem dX2_atom_149 : decode cX2_atom 149 = .ok (.ldc 254, 2) := dk_18 254 (dk_at dksX2_atom_6 11 rfl rfl)
theorem dX2_atom_151 : decode cX2_atom 151 = .ok (.invokevirtual 74, 3) := dk_182 0 74 (dk_at dksX2_atom_6 13 rfl rfl)
theorem dX2_atom_154 : decode cX2_atom 154 = .ok (.ifCond .eq 7, 3) := dk_153 0 7 (dk_at dksX2_atom_6 16 rfl rfl)
theorem dX2_atom_157 : decode cX2_atom 157 = .ok (.iconst 1, 1) := dk_4 (dk_at dksX2_atom_6 19 rfl rfl)
theorem dX2_atom_158 : decode cX2_atom 158 = .ok (.goto 4, 3) := dk_167 0 4 (dk_at dksX2_atom_6 20 rfl rfl)
theorem dX2_atom_161 : decode cX2_atom 161 = .ok (.iconst 2, 1) := dk_5 (dk_at dksX2_atom_6 23 rfl rfl)
theorem dX2_atom_162 : decode cX2_atom 162 = .ok (.invokevirtual 232, 3) := dk_182 0 232 (dk_at dksX2_atom_7 0 rfl rfl)
theorem dX2_atom_165 : decode cX2_atom 165 = .ok (.areturn, 1) := dk_176 (dk_at dksX2_atom_7 3 rfl rfl)
abbrev cX2_within : ByteArray := prog_14_method_24_code
def yX2_within : MethodName := ⟨RX2, "within", "(I)LBreathTown$Value;"⟩
def dkwX2_within_4 : List UInt8 := [176]
abbrev dktX2_within_4 : List UInt8 := dkwX2_within_4 ++ []
def dkwX2_within_3 : List UInt8 := [182, 0, 203, 183, 0, 229, 78, 42, 16, 41, 182, 0, 146, 42, 89, 180, 0, 128, 4, 100, 181, 0, 128, 45]
abbrev dktX2_within_3 : List UInt8 := dkwX2_within_3 ++ dktX2_within_4
def dkwX2_within_2 : List UInt8 := [42, 16, 44, 182, 0, 146, 187, 0, 227, 89, 27, 5, 160, 0, 7, 4, 167, 0, 4, 3, 44, 42]
abbrev dktX2_within_2 : List UInt8 := dkwX2_within_2 ++ dktX2_within_3
def dkwX2_within_1 : List UInt8 := [182, 0, 224, 42, 89, 180, 0, 36, 4, 96, 181, 0, 36, 42, 182, 0, 203, 77, 44, 78, 27, 158, 0, 32]
abbrev dktX2_within_1 : List UInt8 := dkwX2_within_1 ++ dktX2_within_2
def dkwX2_within_0 : List UInt8 := [42, 182, 0, 43, 16, 40, 159, 0, 13, 42, 4, 42, 180, 0, 36, 182, 0, 47, 191, 42, 42, 180, 0, 36]
abbrev dktX2_within_0 : List UInt8 := dkwX2_within_0 ++ dktX2_within_1
theorem dksX2_within_0 : cX2_within.data.toList.drop 0 = dktX2_within_0 := by decide +kernel
theorem dksX2_within_1 : cX2_within.data.toList.drop 24 = dktX2_within_1 := dk_seg dksX2_within_0 24 rfl rfl
theorem dksX2_within_2 : cX2_within.data.toList.drop 48 = dktX2_within_2 := dk_seg dksX2_within_1 24 rfl rfl
theorem dksX2_within_3 : cX2_within.data.toList.drop 70 = dktX2_within_3 := dk_seg dksX2_within_2 22 rfl rfl
theorem dksX2_within_4 : cX2_within.data.toList.drop 94 = dktX2_within_4 := dk_seg dksX2_within_3 24 rfl rfl
theorem dX2_within_0 : decode cX2_within 0 = .ok (.aload_n 0, 1) := dk_42 (dk_at dksX2_within_0 0 rfl rfl)
theorem dX2_within_1 : decode cX2_within 1 = .ok (.invokevirtual 43, 3) := dk_182 0 43 (dk_at dksX2_within_0 1 rfl rfl)
theorem dX2_within_4 : decode cX2_within 4 = .ok (.bipush 40, 2) := dk_16 40 (dk_at dksX2_within_0 4 rfl rfl)
theorem dX2_within_6 : decode cX2_within 6 = .ok (.if_icmp .eq 13, 3) := dk_159 0 13 (dk_at dksX2_within_0 6 rfl rfl)
theorem dX2_within_9 : decode cX2_within 9 = .ok (.aload_n 0, 1) := dk_42 (dk_at dksX2_within_0 9 rfl rfl)
theorem dX2_within_10 : decode cX2_within 10 = .ok (.iconst 1, 1) := dk_4 (dk_at dksX2_within_0 10 rfl rfl)
theorem dX2_within_11 : decode cX2_within 11 = .ok (.aload_n 0, 1) := dk_42 (dk_at dksX2_within_0 11 rfl rfl)
theorem dX2_within_12 : decode cX2_within 12 = .ok (.getfield 36, 3) := dk_180 0 36 (dk_at dksX2_within_0 12 rfl rfl)
theorem dX2_within_15 : decode cX2_within 15 = .ok (.invokevirtual 47, 3) := dk_182 0 47 (dk_at dksX2_within_0 15 rfl rfl)
theorem dX2_within_18 : decode cX2_within 18 = .ok (.athrow, 1) := dk_191 (dk_at dksX2_within_0 18 rfl rfl)
theorem dX2_within_19 : decode cX2_within 19 = .ok (.aload_n 0, 1) := dk_42 (dk_at dksX2_within_0 19 rfl rfl)
theorem dX2_within_20 : decode cX2_within 20 = .ok (.aload_n 0, 1) := dk_42 (dk_at dksX2_within_0 20 rfl rfl)
theorem dX2_within_21 : decode cX2_within 21 = .ok (.getfield 36, 3) := dk_180 0 36 (dk_at dksX2_within_0 21 rfl rfl)
theorem dX2_within_24 : decode cX2_within 24 = .ok (.invokevirtual 224, 3) := dk_182 0 224 (dk_at dksX2_within_1 0 rfl rfl)
theorem dX2_within_27 : decode cX2_within 27 = .ok (.aload_n 0, 1) := dk_42 (dk_at dksX2_within_1 3 rfl rfl)
theorem dX2_within_28 : decode cX2_within 28 = .ok (.dup, 1) := dk_89 (dk_at dksX2_within_1 4 rfl rfl)
theorem dX2_within_29 : decode cX2_within 29 = .ok (.getfield 36, 3) := dk_180 0 36 (dk_at dksX2_within_1 5 rfl rfl)
theorem dX2_within_32 : decode cX2_within 32 = .ok (.iconst 1, 1) := dk_4 (dk_at dksX2_within_1 8 rfl rfl)
theorem dX2_within_33 : decode cX2_within 33 = .ok (.iadd, 1) := dk_96 (dk_at dksX2_within_1 9 rfl rfl)
theorem dX2_within_34 : decode cX2_within 34 = .ok (.putfield 36, 3) := dk_181 0 36 (dk_at dksX2_within_1 10 rfl rfl)
theorem dX2_within_37 : decode cX2_within 37 = .ok (.aload_n 0, 1) := dk_42 (dk_at dksX2_within_1 13 rfl rfl)
theorem dX2_within_38 : decode cX2_within 38 = .ok (.invokevirtual 203, 3) := dk_182 0 203 (dk_at dksX2_within_1 14 rfl rfl)
theorem dX2_within_41 : decode cX2_within 41 = .ok (.astore_n 2, 1) := dk_77 (dk_at dksX2_within_1 17 rfl rfl)
theorem dX2_within_42 : decode cX2_within 42 = .ok (.aload_n 2, 1) := dk_44 (dk_at dksX2_within_1 18 rfl rfl)
theorem dX2_within_43 : decode cX2_within 43 = .ok (.astore_n 3, 1) := dk_78 (dk_at dksX2_within_1 19 rfl rfl)
theorem dX2_within_44 : decode cX2_within 44 = .ok (.iload_n 1, 1) := dk_27 (dk_at dksX2_within_1 20 rfl rfl)
theorem dX2_within_45 : decode cX2_within 45 = .ok (.ifCond .le 32, 3) := dk_158 0 32 (dk_at dksX2_within_1 21 rfl rfl)
theorem dX2_within_48 : decode cX2_within 48 = .ok (.aload_n 0, 1) := dk_42 (dk_at dksX2_within_2 0 rfl rfl)
theorem dX2_within_49 : decode cX2_within 49 = .ok (.bipush 44, 2) := dk_16 44 (dk_at dksX2_within_2 1 rfl rfl)
theorem dX2_within_51 : decode cX2_within 51 = .ok (.invokevirtual 146, 3) := dk_182 0 146 (dk_at dksX2_within_2 3 rfl rfl)
theorem dX2_within_54 : decode cX2_within 54 = .ok (.new 227, 3) := dk_187 0 227 (dk_at dksX2_within_2 6 rfl rfl)
theorem dX2_within_57 : decode cX2_within 57 = .ok (.dup, 1) := dk_89 (dk_at dksX2_within_2 9 rfl rfl)
theorem dX2_within_58 : decode cX2_within 58 = .ok (.iload_n 1, 1) := dk_27 (dk_at dksX2_within_2 10 rfl rfl)
theorem dX2_within_59 : decode cX2_within 59 = .ok (.iconst 2, 1) := dk_5 (dk_at dksX2_within_2 11 rfl rfl)
theorem dX2_within_60 : decode cX2_within 60 = .ok (.if_icmp .ne 7, 3) := dk_160 0 7 (dk_at dksX2_within_2 12 rfl rfl)
theorem dX2_within_63 : decode cX2_within 63 = .ok (.iconst 1, 1) := dk_4 (dk_at dksX2_within_2 15 rfl rfl)
theorem dX2_within_64 : decode cX2_within 64 = .ok (.goto 4, 3) := dk_167 0 4 (dk_at dksX2_within_2 16 rfl rfl)
theorem dX2_within_67 : decode cX2_within 67 = .ok (.iconst 0, 1) := dk_3 (dk_at dksX2_within_2 19 rfl rfl)
theorem dX2_within_68 : decode cX2_within 68 = .ok (.aload_n 2, 1) := dk_44 (dk_at dksX2_within_2 20 rfl rfl)
theorem dX2_within_69 : decode cX2_within 69 = .ok (.aload_n 0, 1) := dk_42 (dk_at dksX2_within_2 21 rfl rfl)
theorem dX2_within_70 : decode cX2_within 70 = .ok (.invokevirtual 203, 3) := dk_182 0 203 (dk_at dksX2_within_3 0 rfl rfl)
theorem dX2_within_73 : decode cX2_within 73 = .ok (.invokespecial 229, 3) := dk_183 0 229 (dk_at dksX2_within_3 3 rfl rfl)
theorem dX2_within_76 : decode cX2_within 76 = .ok (.astore_n 3, 1) := dk_78 (dk_at dksX2_within_3 6 rfl rfl)
theorem dX2_within_77 : decode cX2_within 77 = .ok (.aload_n 0, 1) := dk_42 (dk_at dksX2_within_3 7 rfl rfl)
theorem dX2_within_78 : decode cX2_within 78 = .ok (.bipush 41, 2) := dk_16 41 (dk_at dksX2_within_3 8 rfl rfl)
theorem dX2_within_80 : decode cX2_within 80 = .ok (.invokevirtual 146, 3) := dk_182 0 146 (dk_at dksX2_within_3 10 rfl rfl)
theorem dX2_within_83 : decode cX2_within 83 = .ok (.aload_n 0, 1) := dk_42 (dk_at dksX2_within_3 13 rfl rfl)
theorem dX2_within_84 : decode cX2_within 84 = .ok (.dup, 1) := dk_89 (dk_at dksX2_within_3 14 rfl rfl)
theorem dX2_within_85 : decode cX2_within 85 = .ok (.getfield 128, 3) := dk_180 0 128 (dk_at dksX2_within_3 15 rfl rfl)
theorem dX2_within_88 : decode cX2_within 88 = .ok (.iconst 1, 1) := dk_4 (dk_at dksX2_within_3 18 rfl rfl)
theorem dX2_within_89 : decode cX2_within 89 = .ok (.isub, 1) := dk_100 (dk_at dksX2_within_3 19 rfl rfl)
theorem dX2_within_90 : decode cX2_within 90 = .ok (.putfield 128, 3) := dk_181 0 128 (dk_at dksX2_within_3 20 rfl rfl)
theorem dX2_within_93 : decode cX2_within 93 = .ok (.aload_n 3, 1) := dk_45 (dk_at dksX2_within_3 23 rfl rfl)
theorem dX2_within_94 : decode cX2_within 94 = .ok (.areturn, 1) := dk_176 (dk_at dksX2_within_4 0 rfl rfl)
abbrev cX2_opens : ByteArray := prog_14_method_23_code
def yX2_opens : MethodName := ⟨RX2, "opens", "(I)V"⟩
def dkwX2_opens_1 : List UInt8 := [181, 0, 128, 177]
abbrev dktX2_opens_1 : List UInt8 := dkwX2_opens_1 ++ []
def dkwX2_opens_0 : List UInt8 := [42, 180, 0, 128, 16, 6, 160, 0, 10, 42, 7, 27, 182, 0, 47, 191, 42, 89, 180, 0, 128, 4, 96]
abbrev dktX2_opens_0 : List UInt8 := dkwX2_opens_0 ++ dktX2_opens_1
theorem dksX2_opens_0 : cX2_opens.data.toList.drop 0 = dktX2_opens_0 := by decide +kernel
theorem dksX2_opens_1 : cX2_opens.data.toList.drop 23 = dktX2_opens_1 := dk_seg dksX2_opens_0 23 rfl rfl
theorem dX2_opens_0 : decode cX2_opens 0 = .ok (.aload_n 0, 1) := dk_42 (dk_at dksX2_opens_0 0 rfl rfl)
theorem dX2_opens_1 : decode cX2_opens 1 = .ok (.getfield 128, 3) := dk_180 0 128 (dk_at dksX2_opens_0 1 rfl rfl)
theorem dX2_opens_4 : decode cX2_opens 4 = .ok (.bipush 6, 2) := dk_16 6 (dk_at dksX2_opens_0 4 rfl rfl)
theorem dX2_opens_6 : decode cX2_opens 6 = .ok (.if_icmp .ne 10, 3) := dk_160 0 10 (dk_at dksX2_opens_0 6 rfl rfl)
theorem dX2_opens_9 : decode cX2_opens 9 = .ok (.aload_n 0, 1) := dk_42 (dk_at dksX2_opens_0 9 rfl rfl)
theorem dX2_opens_10 : decode cX2_opens 10 = .ok (.iconst 4, 1) := dk_7 (dk_at dksX2_opens_0 10 rfl rfl)
theorem dX2_opens_11 : decode cX2_opens 11 = .ok (.iload_n 1, 1) := dk_27 (dk_at dksX2_opens_0 11 rfl rfl)
theorem dX2_opens_12 : decode cX2_opens 12 = .ok (.invokevirtual 47, 3) := dk_182 0 47 (dk_at dksX2_opens_0 12 rfl rfl)
theorem dX2_opens_15 : decode cX2_opens 15 = .ok (.athrow, 1) := dk_191 (dk_at dksX2_opens_0 15 rfl rfl)
theorem dX2_opens_16 : decode cX2_opens 16 = .ok (.aload_n 0, 1) := dk_42 (dk_at dksX2_opens_0 16 rfl rfl)
theorem dX2_opens_17 : decode cX2_opens 17 = .ok (.dup, 1) := dk_89 (dk_at dksX2_opens_0 17 rfl rfl)
theorem dX2_opens_18 : decode cX2_opens 18 = .ok (.getfield 128, 3) := dk_180 0 128 (dk_at dksX2_opens_0 18 rfl rfl)
theorem dX2_opens_21 : decode cX2_opens 21 = .ok (.iconst 1, 1) := dk_4 (dk_at dksX2_opens_0 21 rfl rfl)
theorem dX2_opens_22 : decode cX2_opens 22 = .ok (.iadd, 1) := dk_96 (dk_at dksX2_opens_0 22 rfl rfl)
theorem dX2_opens_23 : decode cX2_opens 23 = .ok (.putfield 128, 3) := dk_181 0 128 (dk_at dksX2_opens_1 0 rfl rfl)
theorem dX2_opens_26 : decode cX2_opens 26 = .ok (.return_, 1) := dk_177 (dk_at dksX2_opens_1 3 rfl rfl)
abbrev cX2_must : ByteArray := prog_14_method_5_code
def yX2_must : MethodName := ⟨RX2, "must", "(I)V"⟩
def dkwX2_must_1 : List UInt8 := [96, 181, 0, 36, 177]
abbrev dktX2_must_1 : List UInt8 := dkwX2_must_1 ++ []
def dkwX2_must_0 : List UInt8 := [42, 182, 0, 43, 27, 159, 0, 13, 42, 4, 42, 180, 0, 36, 182, 0, 47, 191, 42, 89, 180, 0, 36, 4]
abbrev dktX2_must_0 : List UInt8 := dkwX2_must_0 ++ dktX2_must_1
theorem dksX2_must_0 : cX2_must.data.toList.drop 0 = dktX2_must_0 := by decide +kernel
theorem dksX2_must_1 : cX2_must.data.toList.drop 24 = dktX2_must_1 := dk_seg dksX2_must_0 24 rfl rfl
theorem dX2_must_0 : decode cX2_must 0 = .ok (.aload_n 0, 1) := dk_42 (dk_at dksX2_must_0 0 rfl rfl)
theorem dX2_must_1 : decode cX2_must 1 = .ok (.invokevirtual 43, 3) := dk_182 0 43 (dk_at dksX2_must_0 1 rfl rfl)
theorem dX2_must_4 : decode cX2_must 4 = .ok (.iload_n 1, 1) := dk_27 (dk_at dksX2_must_0 4 rfl rfl)
theorem dX2_must_5 : decode cX2_must 5 = .ok (.if_icmp .eq 13, 3) := dk_159 0 13 (dk_at dksX2_must_0 5 rfl rfl)
theorem dX2_must_8 : decode cX2_must 8 = .ok (.aload_n 0, 1) := dk_42 (dk_at dksX2_must_0 8 rfl rfl)
theorem dX2_must_9 : decode cX2_must 9 = .ok (.iconst 1, 1) := dk_4 (dk_at dksX2_must_0 9 rfl rfl)
theorem dX2_must_10 : decode cX2_must 10 = .ok (.aload_n 0, 1) := dk_42 (dk_at dksX2_must_0 10 rfl rfl)
theorem dX2_must_11 : decode cX2_must 11 = .ok (.getfield 36, 3) := dk_180 0 36 (dk_at dksX2_must_0 11 rfl rfl)
theorem dX2_must_14 : decode cX2_must 14 = .ok (.invokevirtual 47, 3) := dk_182 0 47 (dk_at dksX2_must_0 14 rfl rfl)
theorem dX2_must_17 : decode cX2_must 17 = .ok (.athrow, 1) := dk_191 (dk_at dksX2_must_0 17 rfl rfl)
theorem dX2_must_18 : decode cX2_must 18 = .ok (.aload_n 0, 1) := dk_42 (dk_at dksX2_must_0 18 rfl rfl)
theorem dX2_must_19 : decode cX2_must 19 = .ok (.dup, 1) := dk_89 (dk_at dksX2_must_0 19 rfl rfl)
theorem dX2_must_20 : decode cX2_must 20 = .ok (.getfield 36, 3) := dk_180 0 36 (dk_at dksX2_must_0 20 rfl rfl)
theorem dX2_must_23 : decode cX2_must 23 = .ok (.iconst 1, 1) := dk_4 (dk_at dksX2_must_0 23 rfl rfl)
theorem dX2_must_24 : decode cX2_must 24 = .ok (.iadd, 1) := dk_96 (dk_at dksX2_must_1 0 rfl rfl)
theorem dX2_must_25 : decode cX2_must 25 = .ok (.putfield 36, 3) := dk_181 0 36 (dk_at dksX2_must_1 1 rfl rfl)
theorem dX2_must_28 : decode cX2_must 28 = .ok (.return_, 1) := dk_177 (dk_at dksX2_must_1 4 rfl rfl)
abbrev cX2_looked : ByteArray := prog_14_method_29_code
def yX2_looked : MethodName := ⟨RX2, "looked", "(I)LBreathTown$Value;"⟩
def dkwX2_looked_1 : List UInt8 := [77, 42, 89, 180, 0, 128, 4, 100, 181, 0, 128, 44, 176]
abbrev dktX2_looked_1 : List UInt8 := dkwX2_looked_1 ++ []
def dkwX2_looked_0 : List UInt8 := [42, 42, 180, 0, 61, 182, 0, 224, 187, 1, 45, 89, 42, 180, 0, 3, 27, 42, 182, 0, 221, 183, 1, 47]
abbrev dktX2_looked_0 : List UInt8 := dkwX2_looked_0 ++ dktX2_looked_1
theorem dksX2_looked_0 : cX2_looked.data.toList.drop 0 = dktX2_looked_0 := by decide +kernel
theorem dksX2_looked_1 : cX2_looked.data.toList.drop 24 = dktX2_looked_1 := dk_seg dksX2_looked_0 24 rfl rfl
theorem dX2_looked_0 : decode cX2_looked 0 = .ok (.aload_n 0, 1) := dk_42 (dk_at dksX2_looked_0 0 rfl rfl)
theorem dX2_looked_1 : decode cX2_looked 1 = .ok (.aload_n 0, 1) := dk_42 (dk_at dksX2_looked_0 1 rfl rfl)
theorem dX2_looked_2 : decode cX2_looked 2 = .ok (.getfield 61, 3) := dk_180 0 61 (dk_at dksX2_looked_0 2 rfl rfl)
theorem dX2_looked_5 : decode cX2_looked 5 = .ok (.invokevirtual 224, 3) := dk_182 0 224 (dk_at dksX2_looked_0 5 rfl rfl)
theorem dX2_looked_8 : decode cX2_looked 8 = .ok (.new 301, 3) := dk_187 1 45 (dk_at dksX2_looked_0 8 rfl rfl)
theorem dX2_looked_11 : decode cX2_looked 11 = .ok (.dup, 1) := dk_89 (dk_at dksX2_looked_0 11 rfl rfl)
theorem dX2_looked_12 : decode cX2_looked 12 = .ok (.aload_n 0, 1) := dk_42 (dk_at dksX2_looked_0 12 rfl rfl)
theorem dX2_looked_13 : decode cX2_looked 13 = .ok (.getfield 3, 3) := dk_180 0 3 (dk_at dksX2_looked_0 13 rfl rfl)
theorem dX2_looked_16 : decode cX2_looked 16 = .ok (.iload_n 1, 1) := dk_27 (dk_at dksX2_looked_0 16 rfl rfl)
theorem dX2_looked_17 : decode cX2_looked 17 = .ok (.aload_n 0, 1) := dk_42 (dk_at dksX2_looked_0 17 rfl rfl)
theorem dX2_looked_18 : decode cX2_looked 18 = .ok (.invokevirtual 221, 3) := dk_182 0 221 (dk_at dksX2_looked_0 18 rfl rfl)
theorem dX2_looked_21 : decode cX2_looked 21 = .ok (.invokespecial 303, 3) := dk_183 1 47 (dk_at dksX2_looked_0 21 rfl rfl)
theorem dX2_looked_24 : decode cX2_looked 24 = .ok (.astore_n 2, 1) := dk_77 (dk_at dksX2_looked_1 0 rfl rfl)
theorem dX2_looked_25 : decode cX2_looked 25 = .ok (.aload_n 0, 1) := dk_42 (dk_at dksX2_looked_1 1 rfl rfl)
theorem dX2_looked_26 : decode cX2_looked 26 = .ok (.dup, 1) := dk_89 (dk_at dksX2_looked_1 2 rfl rfl)
theorem dX2_looked_27 : decode cX2_looked 27 = .ok (.getfield 128, 3) := dk_180 0 128 (dk_at dksX2_looked_1 3 rfl rfl)
theorem dX2_looked_30 : decode cX2_looked 30 = .ok (.iconst 1, 1) := dk_4 (dk_at dksX2_looked_1 6 rfl rfl)
theorem dX2_looked_31 : decode cX2_looked 31 = .ok (.isub, 1) := dk_100 (dk_at dksX2_looked_1 7 rfl rfl)
theorem dX2_looked_32 : decode cX2_looked 32 = .ok (.putfield 128, 3) := dk_181 0 128 (dk_at dksX2_looked_1 8 rfl rfl)
theorem dX2_looked_35 : decode cX2_looked 35 = .ok (.aload_n 2, 1) := dk_44 (dk_at dksX2_looked_1 11 rfl rfl)
theorem dX2_looked_36 : decode cX2_looked 36 = .ok (.areturn, 1) := dk_176 (dk_at dksX2_looked_1 12 rfl rfl)
abbrev cX2_takes : ByteArray := prog_14_method_20_code
def yX2_takes : MethodName := ⟨RX2, "takes", "(I)Z"⟩
def dkwX2_takes_1 : List UInt8 := [167, 0, 4, 3, 96, 181, 0, 36, 28, 172]
abbrev dktX2_takes_1 : List UInt8 := dkwX2_takes_1 ++ []
def dkwX2_takes_0 : List UInt8 := [42, 182, 0, 43, 27, 160, 0, 7, 4, 167, 0, 4, 3, 61, 42, 89, 180, 0, 36, 28, 153, 0, 7, 4]
abbrev dktX2_takes_0 : List UInt8 := dkwX2_takes_0 ++ dktX2_takes_1
theorem dksX2_takes_0 : cX2_takes.data.toList.drop 0 = dktX2_takes_0 := by decide +kernel
theorem dksX2_takes_1 : cX2_takes.data.toList.drop 24 = dktX2_takes_1 := dk_seg dksX2_takes_0 24 rfl rfl
theorem dX2_takes_0 : decode cX2_takes 0 = .ok (.aload_n 0, 1) := dk_42 (dk_at dksX2_takes_0 0 rfl rfl)
theorem dX2_takes_1 : decode cX2_takes 1 = .ok (.invokevirtual 43, 3) := dk_182 0 43 (dk_at dksX2_takes_0 1 rfl rfl)
theorem dX2_takes_4 : decode cX2_takes 4 = .ok (.iload_n 1, 1) := dk_27 (dk_at dksX2_takes_0 4 rfl rfl)
theorem dX2_takes_5 : decode cX2_takes 5 = .ok (.if_icmp .ne 7, 3) := dk_160 0 7 (dk_at dksX2_takes_0 5 rfl rfl)
theorem dX2_takes_8 : decode cX2_takes 8 = .ok (.iconst 1, 1) := dk_4 (dk_at dksX2_takes_0 8 rfl rfl)
theorem dX2_takes_9 : decode cX2_takes 9 = .ok (.goto 4, 3) := dk_167 0 4 (dk_at dksX2_takes_0 9 rfl rfl)
theorem dX2_takes_12 : decode cX2_takes 12 = .ok (.iconst 0, 1) := dk_3 (dk_at dksX2_takes_0 12 rfl rfl)
theorem dX2_takes_13 : decode cX2_takes 13 = .ok (.istore_n 2, 1) := dk_61 (dk_at dksX2_takes_0 13 rfl rfl)
theorem dX2_takes_14 : decode cX2_takes 14 = .ok (.aload_n 0, 1) := dk_42 (dk_at dksX2_takes_0 14 rfl rfl)
theorem dX2_takes_15 : decode cX2_takes 15 = .ok (.dup, 1) := dk_89 (dk_at dksX2_takes_0 15 rfl rfl)
theorem dX2_takes_16 : decode cX2_takes 16 = .ok (.getfield 36, 3) := dk_180 0 36 (dk_at dksX2_takes_0 16 rfl rfl)
theorem dX2_takes_19 : decode cX2_takes 19 = .ok (.iload_n 2, 1) := dk_28 (dk_at dksX2_takes_0 19 rfl rfl)
theorem dX2_takes_20 : decode cX2_takes 20 = .ok (.ifCond .eq 7, 3) := dk_153 0 7 (dk_at dksX2_takes_0 20 rfl rfl)
theorem dX2_takes_23 : decode cX2_takes 23 = .ok (.iconst 1, 1) := dk_4 (dk_at dksX2_takes_0 23 rfl rfl)
theorem dX2_takes_24 : decode cX2_takes 24 = .ok (.goto 4, 3) := dk_167 0 4 (dk_at dksX2_takes_1 0 rfl rfl)
theorem dX2_takes_27 : decode cX2_takes 27 = .ok (.iconst 0, 1) := dk_3 (dk_at dksX2_takes_1 3 rfl rfl)
theorem dX2_takes_28 : decode cX2_takes 28 = .ok (.iadd, 1) := dk_96 (dk_at dksX2_takes_1 4 rfl rfl)
theorem dX2_takes_29 : decode cX2_takes 29 = .ok (.putfield 36, 3) := dk_181 0 36 (dk_at dksX2_takes_1 5 rfl rfl)
theorem dX2_takes_32 : decode cX2_takes 32 = .ok (.iload_n 2, 1) := dk_28 (dk_at dksX2_takes_1 8 rfl rfl)
theorem dX2_takes_33 : decode cX2_takes 33 = .ok (.ireturn, 1) := dk_172 (dk_at dksX2_takes_1 9 rfl rfl)
abbrev cX2_question : ByteArray := prog_14_method_30_code
def yX2_question : MethodName := ⟨RX2, "question", "(I)LBreathTown$Question;"⟩
def dkwX2_question_4 : List UInt8 := [182, 0, 47, 191, 45, 176]
abbrev dktX2_question_4 : List UInt8 := dkwX2_question_4 ++ []
def dkwX2_question_3 : List UInt8 := [1, 42, 182, 0, 203, 183, 1, 55, 78, 42, 182, 0, 43, 2, 159, 0, 13, 42, 4, 42, 180, 0, 36]
abbrev dktX2_question_3 : List UInt8 := dkwX2_question_3 ++ dktX2_question_4
def dkwX2_question_2 : List UInt8 := [162, 0, 19, 187, 1, 53, 89, 28, 42, 182, 1, 25, 1, 183, 1, 55, 167, 0, 16, 187, 1, 53, 89, 28]
abbrev dktX2_question_2 : List UInt8 := dkwX2_question_2 ++ dktX2_question_3
def dkwX2_question_1 : List UInt8 := [178, 1, 50, 184, 0, 82, 61, 28, 2, 160, 0, 13, 42, 4, 42, 180, 0, 61, 182, 0, 47, 191, 28, 6]
abbrev dktX2_question_1 : List UInt8 := dkwX2_question_1 ++ dktX2_question_2
def dkwX2_question_0 : List UInt8 := [42, 27, 181, 0, 29, 42, 3, 181, 0, 36, 42, 3, 181, 0, 128, 42, 4, 181, 0, 131, 42, 182, 0, 70]
abbrev dktX2_question_0 : List UInt8 := dkwX2_question_0 ++ dktX2_question_1
theorem dksX2_question_0 : cX2_question.data.toList.drop 0 = dktX2_question_0 := by decide +kernel
theorem dksX2_question_1 : cX2_question.data.toList.drop 24 = dktX2_question_1 := dk_seg dksX2_question_0 24 rfl rfl
theorem dksX2_question_2 : cX2_question.data.toList.drop 48 = dktX2_question_2 := dk_seg dksX2_question_1 24 rfl rfl
theorem dksX2_question_3 : cX2_question.data.toList.drop 72 = dktX2_question_3 := dk_seg dksX2_question_2 24 rfl rfl
theorem dksX2_question_4 : cX2_question.data.toList.drop 95 = dktX2_question_4 := dk_seg dksX2_question_3 23 rfl rfl
theorem dX2_question_0 : decode cX2_question 0 = .ok (.aload_n 0, 1) := dk_42 (dk_at dksX2_question_0 0 rfl rfl)
theorem dX2_question_1 : decode cX2_question 1 = .ok (.iload_n 1, 1) := dk_27 (dk_at dksX2_question_0 1 rfl rfl)
theorem dX2_question_2 : decode cX2_question 2 = .ok (.putfield 29, 3) := dk_181 0 29 (dk_at dksX2_question_0 2 rfl rfl)
theorem dX2_question_5 : decode cX2_question 5 = .ok (.aload_n 0, 1) := dk_42 (dk_at dksX2_question_0 5 rfl rfl)
theorem dX2_question_6 : decode cX2_question 6 = .ok (.iconst 0, 1) := dk_3 (dk_at dksX2_question_0 6 rfl rfl)
theorem dX2_question_7 : decode cX2_question 7 = .ok (.putfield 36, 3) := dk_181 0 36 (dk_at dksX2_question_0 7 rfl rfl)
theorem dX2_question_10 : decode cX2_question 10 = .ok (.aload_n 0, 1) := dk_42 (dk_at dksX2_question_0 10 rfl rfl)
theorem dX2_question_11 : decode cX2_question 11 = .ok (.iconst 0, 1) := dk_3 (dk_at dksX2_question_0 11 rfl rfl)
theorem dX2_question_12 : decode cX2_question 12 = .ok (.putfield 128, 3) := dk_181 0 128 (dk_at dksX2_question_0 12 rfl rfl)
theorem dX2_question_15 : decode cX2_question 15 = .ok (.aload_n 0, 1) := dk_42 (dk_at dksX2_question_0 15 rfl rfl)
theorem dX2_question_16 : decode cX2_question 16 = .ok (.iconst 1, 1) := dk_4 (dk_at dksX2_question_0 16 rfl rfl)
theorem dX2_question_17 : decode cX2_question 17 = .ok (.putfield 131, 3) := dk_181 0 131 (dk_at dksX2_question_0 17 rfl rfl)
theorem dX2_question_20 : decode cX2_question 20 = .ok (.aload_n 0, 1) := dk_42 (dk_at dksX2_question_0 20 rfl rfl)
theorem dX2_question_21 : decode cX2_question 21 = .ok (.invokevirtual 70, 3) := dk_182 0 70 (dk_at dksX2_question_0 21 rfl rfl)
theorem dX2_question_24 : decode cX2_question 24 = .ok (.getstatic 306, 3) := dk_178 1 50 (dk_at dksX2_question_1 0 rfl rfl)
theorem dX2_question_27 : decode cX2_question 27 = .ok (.invokestatic 82, 3) := dk_184 0 82 (dk_at dksX2_question_1 3 rfl rfl)
theorem dX2_question_30 : decode cX2_question 30 = .ok (.istore_n 2, 1) := dk_61 (dk_at dksX2_question_1 6 rfl rfl)
theorem dX2_question_31 : decode cX2_question 31 = .ok (.iload_n 2, 1) := dk_28 (dk_at dksX2_question_1 7 rfl rfl)
theorem dX2_question_32 : decode cX2_question 32 = .ok (.iconst (-1), 1) := dk_2 (dk_at dksX2_question_1 8 rfl rfl)
theorem dX2_question_33 : decode cX2_question 33 = .ok (.if_icmp .ne 13, 3) := dk_160 0 13 (dk_at dksX2_question_1 9 rfl rfl)
theorem dX2_question_36 : decode cX2_question 36 = .ok (.aload_n 0, 1) := dk_42 (dk_at dksX2_question_1 12 rfl rfl)
theorem dX2_question_37 : decode cX2_question 37 = .ok (.iconst 1, 1) := dk_4 (dk_at dksX2_question_1 13 rfl rfl)
theorem dX2_question_38 : decode cX2_question 38 = .ok (.aload_n 0, 1) := dk_42 (dk_at dksX2_question_1 14 rfl rfl)
theorem dX2_question_39 : decode cX2_question 39 = .ok (.getfield 61, 3) := dk_180 0 61 (dk_at dksX2_question_1 15 rfl rfl)
theorem dX2_question_42 : decode cX2_question 42 = .ok (.invokevirtual 47, 3) := dk_182 0 47 (dk_at dksX2_question_1 18 rfl rfl)
theorem dX2_question_45 : decode cX2_question 45 = .ok (.athrow, 1) := dk_191 (dk_at dksX2_question_1 21 rfl rfl)
theorem dX2_question_46 : decode cX2_question 46 = .ok (.iload_n 2, 1) := dk_28 (dk_at dksX2_question_1 22 rfl rfl)
theorem dX2_question_47 : decode cX2_question 47 = .ok (.iconst 3, 1) := dk_6 (dk_at dksX2_question_1 23 rfl rfl)
theorem dX2_question_48 : decode cX2_question 48 = .ok (.if_icmp .ge 19, 3) := dk_162 0 19 (dk_at dksX2_question_2 0 rfl rfl)
theorem dX2_question_51 : decode cX2_question 51 = .ok (.new 309, 3) := dk_187 1 53 (dk_at dksX2_question_2 3 rfl rfl)
theorem dX2_question_54 : decode cX2_question 54 = .ok (.dup, 1) := dk_89 (dk_at dksX2_question_2 6 rfl rfl)
theorem dX2_question_55 : decode cX2_question 55 = .ok (.iload_n 2, 1) := dk_28 (dk_at dksX2_question_2 7 rfl rfl)
theorem dX2_question_56 : decode cX2_question 56 = .ok (.aload_n 0, 1) := dk_42 (dk_at dksX2_question_2 8 rfl rfl)
theorem dX2_question_57 : decode cX2_question 57 = .ok (.invokevirtual 281, 3) := dk_182 1 25 (dk_at dksX2_question_2 9 rfl rfl)
theorem dX2_question_60 : decode cX2_question 60 = .ok (.aconst_null, 1) := dk_1 (dk_at dksX2_question_2 12 rfl rfl)
theorem dX2_question_61 : decode cX2_question 61 = .ok (.invokespecial 311, 3) := dk_183 1 55 (dk_at dksX2_question_2 13 rfl rfl)
theorem dX2_question_64 : decode cX2_question 64 = .ok (.goto 16, 3) := dk_167 0 16 (dk_at dksX2_question_2 16 rfl rfl)
theorem dX2_question_67 : decode cX2_question 67 = .ok (.new 309, 3) := dk_187 1 53 (dk_at dksX2_question_2 19 rfl rfl)
theorem dX2_question_70 : decode cX2_question 70 = .ok (.dup, 1) := dk_89 (dk_at dksX2_question_2 22 rfl rfl)
theorem dX2_question_71 : decode cX2_question 71 = .ok (.iload_n 2, 1) := dk_28 (dk_at dksX2_question_2 23 rfl rfl)
theorem dX2_question_72 : decode cX2_question 72 = .ok (.aconst_null, 1) := dk_1 (dk_at dksX2_question_3 0 rfl rfl)
theorem dX2_question_73 : decode cX2_question 73 = .ok (.aload_n 0, 1) := dk_42 (dk_at dksX2_question_3 1 rfl rfl)
theorem dX2_question_74 : decode cX2_question 74 = .ok (.invokevirtual 203, 3) := dk_182 0 203 (dk_at dksX2_question_3 2 rfl rfl)
theorem dX2_question_77 : decode cX2_question 77 = .ok (.invokespecial 311, 3) := dk_183 1 55 (dk_at dksX2_question_3 5 rfl rfl)
theorem dX2_question_80 : decode cX2_question 80 = .ok (.astore_n 3, 1) := dk_78 (dk_at dksX2_question_3 8 rfl rfl)
theorem dX2_question_81 : decode cX2_question 81 = .ok (.aload_n 0, 1) := dk_42 (dk_at dksX2_question_3 9 rfl rfl)
theorem dX2_question_82 : decode cX2_question 82 = .ok (.invokevirtual 43, 3) := dk_182 0 43 (dk_at dksX2_question_3 10 rfl rfl)
theorem dX2_question_85 : decode cX2_question 85 = .ok (.iconst (-1), 1) := dk_2 (dk_at dksX2_question_3 13 rfl rfl)
theorem dX2_question_86 : decode cX2_question 86 = .ok (.if_icmp .eq 13, 3) := dk_159 0 13 (dk_at dksX2_question_3 14 rfl rfl)
theorem dX2_question_89 : decode cX2_question 89 = .ok (.aload_n 0, 1) := dk_42 (dk_at dksX2_question_3 17 rfl rfl)
theorem dX2_question_90 : decode cX2_question 90 = .ok (.iconst 1, 1) := dk_4 (dk_at dksX2_question_3 18 rfl rfl)
theorem dX2_question_91 : decode cX2_question 91 = .ok (.aload_n 0, 1) := dk_42 (dk_at dksX2_question_3 19 rfl rfl)
theorem dX2_question_92 : decode cX2_question 92 = .ok (.getfield 36, 3) := dk_180 0 36 (dk_at dksX2_question_3 20 rfl rfl)
theorem dX2_question_95 : decode cX2_question 95 = .ok (.invokevirtual 47, 3) := dk_182 0 47 (dk_at dksX2_question_4 0 rfl rfl)
theorem dX2_question_98 : decode cX2_question 98 = .ok (.athrow, 1) := dk_191 (dk_at dksX2_question_4 3 rfl rfl)
theorem dX2_question_99 : decode cX2_question 99 = .ok (.aload_n 3, 1) := dk_45 (dk_at dksX2_question_4 4 rfl rfl)
theorem dX2_question_100 : decode cX2_question 100 = .ok (.areturn, 1) := dk_176 (dk_at dksX2_question_4 5 rfl rfl)
abbrev cX2_test : ByteArray := prog_14_method_26_code
def yX2_test : MethodName := ⟨RX2, "test", "()LBreathTown$Test;"⟩
def dkwX2_test_2 : List UInt8 := [167, 255, 232, 43, 176]
abbrev dktX2_test_2 : List UInt8 := dkwX2_test_2 ++ []
def dkwX2_test_1 : List UInt8 := [19, 1, 14, 182, 1, 16, 153, 0, 20, 43, 180, 1, 7, 42, 182, 1, 10, 185, 0, 169, 2, 0, 87]
abbrev dktX2_test_1 : List UInt8 := dkwX2_test_1 ++ dktX2_test_2
def dkwX2_test_0 : List UInt8 := [187, 1, 2, 89, 3, 183, 1, 4, 76, 43, 180, 1, 7, 42, 182, 1, 10, 185, 0, 169, 2, 0, 87, 42]
abbrev dktX2_test_0 : List UInt8 := dkwX2_test_0 ++ dktX2_test_1
theorem dksX2_test_0 : cX2_test.data.toList.drop 0 = dktX2_test_0 := by decide +kernel
theorem dksX2_test_1 : cX2_test.data.toList.drop 24 = dktX2_test_1 := dk_seg dksX2_test_0 24 rfl rfl
theorem dksX2_test_2 : cX2_test.data.toList.drop 47 = dktX2_test_2 := dk_seg dksX2_test_1 23 rfl rfl
theorem dX2_test_0 : decode cX2_test 0 = .ok (.new 258, 3) := dk_187 1 2 (dk_at dksX2_test_0 0 rfl rfl)
theorem dX2_test_3 : decode cX2_test 3 = .ok (.dup, 1) := dk_89 (dk_at dksX2_test_0 3 rfl rfl)
theorem dX2_test_4 : decode cX2_test 4 = .ok (.iconst 0, 1) := dk_3 (dk_at dksX2_test_0 4 rfl rfl)
theorem dX2_test_5 : decode cX2_test 5 = .ok (.invokespecial 260, 3) := dk_183 1 4 (dk_at dksX2_test_0 5 rfl rfl)
theorem dX2_test_8 : decode cX2_test 8 = .ok (.astore_n 1, 1) := dk_76 (dk_at dksX2_test_0 8 rfl rfl)
theorem dX2_test_9 : decode cX2_test 9 = .ok (.aload_n 1, 1) := dk_43 (dk_at dksX2_test_0 9 rfl rfl)
theorem dX2_test_10 : decode cX2_test 10 = .ok (.getfield 263, 3) := dk_180 1 7 (dk_at dksX2_test_0 10 rfl rfl)
theorem dX2_test_13 : decode cX2_test 13 = .ok (.aload_n 0, 1) := dk_42 (dk_at dksX2_test_0 13 rfl rfl)
theorem dX2_test_14 : decode cX2_test 14 = .ok (.invokevirtual 266, 3) := dk_182 1 10 (dk_at dksX2_test_0 14 rfl rfl)
theorem dX2_test_17 : decode cX2_test 17 = .ok (.invokeinterface 169 2, 5) := by decide +kernel
theorem dX2_test_22 : decode cX2_test 22 = .ok (.pop, 1) := dk_87 (dk_at dksX2_test_0 22 rfl rfl)
theorem dX2_test_23 : decode cX2_test 23 = .ok (.aload_n 0, 1) := dk_42 (dk_at dksX2_test_0 23 rfl rfl)
theorem dX2_test_24 : decode cX2_test 24 = .ok (.ldc_w 270, 3) := dk_19 1 14 (dk_at dksX2_test_1 0 rfl rfl)
theorem dX2_test_27 : decode cX2_test 27 = .ok (.invokevirtual 272, 3) := dk_182 1 16 (dk_at dksX2_test_1 3 rfl rfl)
theorem dX2_test_30 : decode cX2_test 30 = .ok (.ifCond .eq 20, 3) := dk_153 0 20 (dk_at dksX2_test_1 6 rfl rfl)
theorem dX2_test_33 : decode cX2_test 33 = .ok (.aload_n 1, 1) := dk_43 (dk_at dksX2_test_1 9 rfl rfl)
theorem dX2_test_34 : decode cX2_test 34 = .ok (.getfield 263, 3) := dk_180 1 7 (dk_at dksX2_test_1 10 rfl rfl)
theorem dX2_test_37 : decode cX2_test 37 = .ok (.aload_n 0, 1) := dk_42 (dk_at dksX2_test_1 13 rfl rfl)
theorem dX2_test_38 : decode cX2_test 38 = .ok (.invokevirtual 266, 3) := dk_182 1 10 (dk_at dksX2_test_1 14 rfl rfl)
theorem dX2_test_41 : decode cX2_test 41 = .ok (.invokeinterface 169 2, 5) := by decide +kernel
theorem dX2_test_46 : decode cX2_test 46 = .ok (.pop, 1) := dk_87 (dk_at dksX2_test_1 22 rfl rfl)
theorem dX2_test_47 : decode cX2_test 47 = .ok (.goto (-24), 3) := dk_167 255 232 (dk_at dksX2_test_2 0 rfl rfl)
theorem dX2_test_50 : decode cX2_test 50 = .ok (.aload_n 1, 1) := dk_43 (dk_at dksX2_test_2 3 rfl rfl)
theorem dX2_test_51 : decode cX2_test 51 = .ok (.areturn, 1) := dk_176 (dk_at dksX2_test_2 4 rfl rfl)
abbrev cX2_both : ByteArray := prog_14_method_27_code
def yX2_both : MethodName := ⟨RX2, "both", "()LBreathTown$Test;"⟩
def dkwX2_both_2 : List UInt8 := [167, 255, 232, 43, 176]
abbrev dktX2_both_2 : List UInt8 := dkwX2_both_2 ++ []
def dkwX2_both_1 : List UInt8 := [19, 1, 23, 182, 1, 16, 153, 0, 20, 43, 180, 1, 7, 42, 182, 1, 20, 185, 0, 169, 2, 0, 87]
abbrev dktX2_both_1 : List UInt8 := dkwX2_both_1 ++ dktX2_both_2
def dkwX2_both_0 : List UInt8 := [187, 1, 2, 89, 4, 183, 1, 4, 76, 43, 180, 1, 7, 42, 182, 1, 20, 185, 0, 169, 2, 0, 87, 42]
abbrev dktX2_both_0 : List UInt8 := dkwX2_both_0 ++ dktX2_both_1
theorem dksX2_both_0 : cX2_both.data.toList.drop 0 = dktX2_both_0 := by decide +kernel
theorem dksX2_both_1 : cX2_both.data.toList.drop 24 = dktX2_both_1 := dk_seg dksX2_both_0 24 rfl rfl
theorem dksX2_both_2 : cX2_both.data.toList.drop 47 = dktX2_both_2 := dk_seg dksX2_both_1 23 rfl rfl
theorem dX2_both_0 : decode cX2_both 0 = .ok (.new 258, 3) := dk_187 1 2 (dk_at dksX2_both_0 0 rfl rfl)
theorem dX2_both_3 : decode cX2_both 3 = .ok (.dup, 1) := dk_89 (dk_at dksX2_both_0 3 rfl rfl)
theorem dX2_both_4 : decode cX2_both 4 = .ok (.iconst 1, 1) := dk_4 (dk_at dksX2_both_0 4 rfl rfl)
theorem dX2_both_5 : decode cX2_both 5 = .ok (.invokespecial 260, 3) := dk_183 1 4 (dk_at dksX2_both_0 5 rfl rfl)
theorem dX2_both_8 : decode cX2_both 8 = .ok (.astore_n 1, 1) := dk_76 (dk_at dksX2_both_0 8 rfl rfl)
theorem dX2_both_9 : decode cX2_both 9 = .ok (.aload_n 1, 1) := dk_43 (dk_at dksX2_both_0 9 rfl rfl)
theorem dX2_both_10 : decode cX2_both 10 = .ok (.getfield 263, 3) := dk_180 1 7 (dk_at dksX2_both_0 10 rfl rfl)
theorem dX2_both_13 : decode cX2_both 13 = .ok (.aload_n 0, 1) := dk_42 (dk_at dksX2_both_0 13 rfl rfl)
theorem dX2_both_14 : decode cX2_both 14 = .ok (.invokevirtual 276, 3) := dk_182 1 20 (dk_at dksX2_both_0 14 rfl rfl)
theorem dX2_both_17 : decode cX2_both 17 = .ok (.invokeinterface 169 2, 5) := by decide +kernel
theorem dX2_both_22 : decode cX2_both 22 = .ok (.pop, 1) := dk_87 (dk_at dksX2_both_0 22 rfl rfl)
theorem dX2_both_23 : decode cX2_both 23 = .ok (.aload_n 0, 1) := dk_42 (dk_at dksX2_both_0 23 rfl rfl)
theorem dX2_both_24 : decode cX2_both 24 = .ok (.ldc_w 279, 3) := dk_19 1 23 (dk_at dksX2_both_1 0 rfl rfl)
theorem dX2_both_27 : decode cX2_both 27 = .ok (.invokevirtual 272, 3) := dk_182 1 16 (dk_at dksX2_both_1 3 rfl rfl)
theorem dX2_both_30 : decode cX2_both 30 = .ok (.ifCond .eq 20, 3) := dk_153 0 20 (dk_at dksX2_both_1 6 rfl rfl)
theorem dX2_both_33 : decode cX2_both 33 = .ok (.aload_n 1, 1) := dk_43 (dk_at dksX2_both_1 9 rfl rfl)
theorem dX2_both_34 : decode cX2_both 34 = .ok (.getfield 263, 3) := dk_180 1 7 (dk_at dksX2_both_1 10 rfl rfl)
theorem dX2_both_37 : decode cX2_both 37 = .ok (.aload_n 0, 1) := dk_42 (dk_at dksX2_both_1 13 rfl rfl)
theorem dX2_both_38 : decode cX2_both 38 = .ok (.invokevirtual 276, 3) := dk_182 1 20 (dk_at dksX2_both_1 14 rfl rfl)
theorem dX2_both_41 : decode cX2_both 41 = .ok (.invokeinterface 169 2, 5) := by decide +kernel
theorem dX2_both_46 : decode cX2_both 46 = .ok (.pop, 1) := dk_87 (dk_at dksX2_both_1 22 rfl rfl)
theorem dX2_both_47 : decode cX2_both 47 = .ok (.goto (-24), 3) := dk_167 255 232 (dk_at dksX2_both_2 0 rfl rfl)
theorem dX2_both_50 : decode cX2_both 50 = .ok (.aload_n 1, 1) := dk_43 (dk_at dksX2_both_2 3 rfl rfl)
theorem dX2_both_51 : decode cX2_both 51 = .ok (.areturn, 1) := dk_176 (dk_at dksX2_both_2 4 rfl rfl)
abbrev cX2_fact : ByteArray := prog_14_method_28_code
def yX2_fact : MethodName := ⟨RX2, "fact", "()LBreathTown$Test;"⟩
def dkwX2_fact_7 : List UInt8 := [183, 1, 42, 176]
abbrev dktX2_fact_7 : List UInt8 := dkwX2_fact_7 ++ []
def dkwX2_fact_6 : List UInt8 := [182, 0, 47, 191, 42, 89, 180, 0, 36, 4, 96, 181, 0, 36, 187, 1, 40, 89, 43, 28, 42, 182, 0, 203]
abbrev dktX2_fact_6 : List UInt8 := dkwX2_fact_6 ++ dktX2_fact_7
def dkwX2_fact_5 : List UInt8 := [28, 16, 60, 159, 0, 25, 28, 16, 62, 159, 0, 19, 28, 16, 61, 159, 0, 13, 42, 4, 42, 180, 0, 36]
abbrev dktX2_fact_5 : List UInt8 := dkwX2_fact_5 ++ dktX2_fact_6
def dkwX2_fact_4 : List UInt8 := [182, 1, 16, 153, 0, 11, 187, 1, 37, 89, 183, 1, 39, 176, 42, 182, 0, 203, 76, 42, 182, 0, 43, 61]
abbrev dktX2_fact_4 : List UInt8 := dkwX2_fact_4 ++ dktX2_fact_5
def dkwX2_fact_3 : List UInt8 := [42, 182, 1, 20, 183, 1, 32, 76, 42, 89, 180, 0, 128, 4, 100, 181, 0, 128, 43, 176, 42, 19, 1, 35]
abbrev dktX2_fact_3 : List UInt8 := dkwX2_fact_3 ++ dktX2_fact_4
def dkwX2_fact_2 : List UInt8 := [43, 176, 42, 19, 1, 28, 182, 1, 16, 153, 0, 35, 42, 42, 180, 0, 61, 182, 0, 224, 187, 1, 30, 89]
abbrev dktX2_fact_2 : List UInt8 := dkwX2_fact_2 ++ dktX2_fact_3
def dkwX2_fact_1 : List UInt8 := [181, 0, 36, 42, 182, 1, 25, 76, 42, 16, 93, 182, 0, 146, 42, 89, 180, 0, 128, 4, 100, 181, 0, 128]
abbrev dktX2_fact_1 : List UInt8 := dkwX2_fact_1 ++ dktX2_fact_2
def dkwX2_fact_0 : List UInt8 := [42, 182, 0, 43, 16, 91, 160, 0, 44, 42, 42, 180, 0, 36, 182, 0, 224, 42, 89, 180, 0, 36, 4, 96]
abbrev dktX2_fact_0 : List UInt8 := dkwX2_fact_0 ++ dktX2_fact_1
theorem dksX2_fact_0 : cX2_fact.data.toList.drop 0 = dktX2_fact_0 := by decide +kernel
theorem dksX2_fact_1 : cX2_fact.data.toList.drop 24 = dktX2_fact_1 := dk_seg dksX2_fact_0 24 rfl rfl
theorem dksX2_fact_2 : cX2_fact.data.toList.drop 48 = dktX2_fact_2 := dk_seg dksX2_fact_1 24 rfl rfl
theorem dksX2_fact_3 : cX2_fact.data.toList.drop 72 = dktX2_fact_3 := dk_seg dksX2_fact_2 24 rfl rfl
theorem dksX2_fact_4 : cX2_fact.data.toList.drop 96 = dktX2_fact_4 := dk_seg dksX2_fact_3 24 rfl rfl
theorem dksX2_fact_5 : cX2_fact.data.toList.drop 120 = dktX2_fact_5 := dk_seg dksX2_fact_4 24 rfl rfl
theorem dksX2_fact_6 : cX2_fact.data.toList.drop 144 = dktX2_fact_6 := dk_seg dksX2_fact_5 24 rfl rfl
theorem dksX2_fact_7 : cX2_fact.data.toList.drop 168 = dktX2_fact_7 := dk_seg dksX2_fact_6 24 rfl rfl
theorem dX2_fact_0 : decode cX2_fact 0 = .ok (.aload_n 0, 1) := dk_42 (dk_at dksX2_fact_0 0 rfl rfl)
theorem dX2_fact_1 : decode cX2_fact 1 = .ok (.invokevirtual 43, 3) := dk_182 0 43 (dk_at dksX2_fact_0 1 rfl rfl)
theorem dX2_fact_4 : decode cX2_fact 4 = .ok (.bipush 91, 2) := dk_16 91 (dk_at dksX2_fact_0 4 rfl rfl)
theorem dX2_fact_6 : decode cX2_fact 6 = .ok (.if_icmp .ne 44, 3) := dk_160 0 44 (dk_at dksX2_fact_0 6 rfl rfl)
theorem dX2_fact_9 : decode cX2_fact 9 = .ok (.aload_n 0, 1) := dk_42 (dk_at dksX2_fact_0 9 rfl rfl)
theorem dX2_fact_10 : decode cX2_fact 10 = .ok (.aload_n 0, 1) := dk_42 (dk_at dksX2_fact_0 10 rfl rfl)
theorem dX2_fact_11 : decode cX2_fact 11 = .ok (.getfield 36, 3) := dk_180 0 36 (dk_at dksX2_fact_0 11 rfl rfl)
theorem dX2_fact_14 : decode cX2_fact 14 = .ok (.invokevirtual 224, 3) := dk_182 0 224 (dk_at dksX2_fact_0 14 rfl rfl)
theorem dX2_fact_17 : decode cX2_fact 17 = .ok (.aload_n 0, 1) := dk_42 (dk_at dksX2_fact_0 17 rfl rfl)
theorem dX2_fact_18 : decode cX2_fact 18 = .ok (.dup, 1) := dk_89 (dk_at dksX2_fact_0 18 rfl rfl)
theorem dX2_fact_19 : decode cX2_fact 19 = .ok (.getfield 36, 3) := dk_180 0 36 (dk_at dksX2_fact_0 19 rfl rfl)
theorem dX2_fact_22 : decode cX2_fact 22 = .ok (.iconst 1, 1) := dk_4 (dk_at dksX2_fact_0 22 rfl rfl)
theorem dX2_fact_23 : decode cX2_fact 23 = .ok (.iadd, 1) := dk_96 (dk_at dksX2_fact_0 23 rfl rfl)
theorem dX2_fact_24 : decode cX2_fact 24 = .ok (.putfield 36, 3) := dk_181 0 36 (dk_at dksX2_fact_1 0 rfl rfl)
theorem dX2_fact_27 : decode cX2_fact 27 = .ok (.aload_n 0, 1) := dk_42 (dk_at dksX2_fact_1 3 rfl rfl)
theorem dX2_fact_28 : decode cX2_fact 28 = .ok (.invokevirtual 281, 3) := dk_182 1 25 (dk_at dksX2_fact_1 4 rfl rfl)
theorem dX2_fact_31 : decode cX2_fact 31 = .ok (.astore_n 1, 1) := dk_76 (dk_at dksX2_fact_1 7 rfl rfl)
theorem dX2_fact_32 : decode cX2_fact 32 = .ok (.aload_n 0, 1) := dk_42 (dk_at dksX2_fact_1 8 rfl rfl)
theorem dX2_fact_33 : decode cX2_fact 33 = .ok (.bipush 93, 2) := dk_16 93 (dk_at dksX2_fact_1 9 rfl rfl)
theorem dX2_fact_35 : decode cX2_fact 35 = .ok (.invokevirtual 146, 3) := dk_182 0 146 (dk_at dksX2_fact_1 11 rfl rfl)
theorem dX2_fact_38 : decode cX2_fact 38 = .ok (.aload_n 0, 1) := dk_42 (dk_at dksX2_fact_1 14 rfl rfl)
theorem dX2_fact_39 : decode cX2_fact 39 = .ok (.dup, 1) := dk_89 (dk_at dksX2_fact_1 15 rfl rfl)
theorem dX2_fact_40 : decode cX2_fact 40 = .ok (.getfield 128, 3) := dk_180 0 128 (dk_at dksX2_fact_1 16 rfl rfl)
theorem dX2_fact_43 : decode cX2_fact 43 = .ok (.iconst 1, 1) := dk_4 (dk_at dksX2_fact_1 19 rfl rfl)
theorem dX2_fact_44 : decode cX2_fact 44 = .ok (.isub, 1) := dk_100 (dk_at dksX2_fact_1 20 rfl rfl)
theorem dX2_fact_45 : decode cX2_fact 45 = .ok (.putfield 128, 3) := dk_181 0 128 (dk_at dksX2_fact_1 21 rfl rfl)
theorem dX2_fact_48 : decode cX2_fact 48 = .ok (.aload_n 1, 1) := dk_43 (dk_at dksX2_fact_2 0 rfl rfl)
theorem dX2_fact_49 : decode cX2_fact 49 = .ok (.areturn, 1) := dk_176 (dk_at dksX2_fact_2 1 rfl rfl)
theorem dX2_fact_50 : decode cX2_fact 50 = .ok (.aload_n 0, 1) := dk_42 (dk_at dksX2_fact_2 2 rfl rfl)
theorem dX2_fact_51 : decode cX2_fact 51 = .ok (.ldc_w 284, 3) := dk_19 1 28 (dk_at dksX2_fact_2 3 rfl rfl)
theorem dX2_fact_54 : decode cX2_fact 54 = .ok (.invokevirtual 272, 3) := dk_182 1 16 (dk_at dksX2_fact_2 6 rfl rfl)
theorem dX2_fact_57 : decode cX2_fact 57 = .ok (.ifCond .eq 35, 3) := dk_153 0 35 (dk_at dksX2_fact_2 9 rfl rfl)
theorem dX2_fact_60 : decode cX2_fact 60 = .ok (.aload_n 0, 1) := dk_42 (dk_at dksX2_fact_2 12 rfl rfl)
theorem dX2_fact_61 : decode cX2_fact 61 = .ok (.aload_n 0, 1) := dk_42 (dk_at dksX2_fact_2 13 rfl rfl)
theorem dX2_fact_62 : decode cX2_fact 62 = .ok (.getfield 61, 3) := dk_180 0 61 (dk_at dksX2_fact_2 14 rfl rfl)
theorem dX2_fact_65 : decode cX2_fact 65 = .ok (.invokevirtual 224, 3) := dk_182 0 224 (dk_at dksX2_fact_2 17 rfl rfl)
theorem dX2_fact_68 : decode cX2_fact 68 = .ok (.new 286, 3) := dk_187 1 30 (dk_at dksX2_fact_2 20 rfl rfl)
theorem dX2_fact_71 : decode cX2_fact 71 = .ok (.dup, 1) := dk_89 (dk_at dksX2_fact_2 23 rfl rfl)
theorem dX2_fact_72 : decode cX2_fact 72 = .ok (.aload_n 0, 1) := dk_42 (dk_at dksX2_fact_3 0 rfl rfl)
theorem dX2_fact_73 : decode cX2_fact 73 = .ok (.invokevirtual 276, 3) := dk_182 1 20 (dk_at dksX2_fact_3 1 rfl rfl)
theorem dX2_fact_76 : decode cX2_fact 76 = .ok (.invokespecial 288, 3) := dk_183 1 32 (dk_at dksX2_fact_3 4 rfl rfl)
theorem dX2_fact_79 : decode cX2_fact 79 = .ok (.astore_n 1, 1) := dk_76 (dk_at dksX2_fact_3 7 rfl rfl)
theorem dX2_fact_80 : decode cX2_fact 80 = .ok (.aload_n 0, 1) := dk_42 (dk_at dksX2_fact_3 8 rfl rfl)
theorem dX2_fact_81 : decode cX2_fact 81 = .ok (.dup, 1) := dk_89 (dk_at dksX2_fact_3 9 rfl rfl)
theorem dX2_fact_82 : decode cX2_fact 82 = .ok (.getfield 128, 3) := dk_180 0 128 (dk_at dksX2_fact_3 10 rfl rfl)
theorem dX2_fact_85 : decode cX2_fact 85 = .ok (.iconst 1, 1) := dk_4 (dk_at dksX2_fact_3 13 rfl rfl)
theorem dX2_fact_86 : decode cX2_fact 86 = .ok (.isub, 1) := dk_100 (dk_at dksX2_fact_3 14 rfl rfl)
theorem dX2_fact_87 : decode cX2_fact 87 = .ok (.putfield 128, 3) := dk_181 0 128 (dk_at dksX2_fact_3 15 rfl rfl)
theorem dX2_fact_90 : decode cX2_fact 90 = .ok (.aload_n 1, 1) := dk_43 (dk_at dksX2_fact_3 18 rfl rfl)
theorem dX2_fact_91 : decode cX2_fact 91 = .ok (.areturn, 1) := dk_176 (dk_at dksX2_fact_3 19 rfl rfl)
theorem dX2_fact_92 : decode cX2_fact 92 = .ok (.aload_n 0, 1) := dk_42 (dk_at dksX2_fact_3 20 rfl rfl)
theorem dX2_fact_93 : decode cX2_fact 93 = .ok (.ldc_w 291, 3) := dk_19 1 35 (dk_at dksX2_fact_3 21 rfl rfl)
theorem dX2_fact_96 : decode cX2_fact 96 = .ok (.invokevirtual 272, 3) := dk_182 1 16 (dk_at dksX2_fact_4 0 rfl rfl)
theorem dX2_fact_99 : decode cX2_fact 99 = .ok (.ifCond .eq 11, 3) := dk_153 0 11 (dk_at dksX2_fact_4 3 rfl rfl)
theorem dX2_fact_102 : decode cX2_fact 102 = .ok (.new 293, 3) := dk_187 1 37 (dk_at dksX2_fact_4 6 rfl rfl)
theorem dX2_fact_105 : decode cX2_fact 105 = .ok (.dup, 1) := dk_89 (dk_at dksX2_fact_4 9 rfl rfl)
theorem dX2_fact_106 : decode cX2_fact 106 = .ok (.invokespecial 295, 3) := dk_183 1 39 (dk_at dksX2_fact_4 10 rfl rfl)
theorem dX2_fact_109 : decode cX2_fact 109 = .ok (.areturn, 1) := dk_176 (dk_at dksX2_fact_4 13 rfl rfl)
theorem dX2_fact_110 : decode cX2_fact 110 = .ok (.aload_n 0, 1) := dk_42 (dk_at dksX2_fact_4 14 rfl rfl)
theorem dX2_fact_111 : decode cX2_fact 111 = .ok (.invokevirtual 203, 3) := dk_182 0 203 (dk_at dksX2_fact_4 15 rfl rfl)
theorem dX2_fact_114 : decode cX2_fact 114 = .ok (.astore_n 1, 1) := dk_76 (dk_at dksX2_fact_4 18 rfl rfl)
theorem dX2_fact_115 : decode cX2_fact 115 = .ok (.aload_n 0, 1) := dk_42 (dk_at dksX2_fact_4 19 rfl rfl)
theorem dX2_fact_116 : decode cX2_fact 116 = .ok (.invokevirtual 43, 3) := dk_182 0 43 (dk_at dksX2_fact_4 20 rfl rfl)
theorem dX2_fact_119 : decode cX2_fact 119 = .ok (.istore_n 2, 1) := dk_61 (dk_at dksX2_fact_4 23 rfl rfl)
theorem dX2_fact_120 : decode cX2_fact 120 = .ok (.iload_n 2, 1) := dk_28 (dk_at dksX2_fact_5 0 rfl rfl)
theorem dX2_fact_121 : decode cX2_fact 121 = .ok (.bipush 60, 2) := dk_16 60 (dk_at dksX2_fact_5 1 rfl rfl)
theorem dX2_fact_123 : decode cX2_fact 123 = .ok (.if_icmp .eq 25, 3) := dk_159 0 25 (dk_at dksX2_fact_5 3 rfl rfl)
theorem dX2_fact_126 : decode cX2_fact 126 = .ok (.iload_n 2, 1) := dk_28 (dk_at dksX2_fact_5 6 rfl rfl)
theorem dX2_fact_127 : decode cX2_fact 127 = .ok (.bipush 62, 2) := dk_16 62 (dk_at dksX2_fact_5 7 rfl rfl)
theorem dX2_fact_129 : decode cX2_fact 129 = .ok (.if_icmp .eq 19, 3) := dk_159 0 19 (dk_at dksX2_fact_5 9 rfl rfl)
theorem dX2_fact_132 : decode cX2_fact 132 = .ok (.iload_n 2, 1) := dk_28 (dk_at dksX2_fact_5 12 rfl rfl)
theorem dX2_fact_133 : decode cX2_fact 133 = .ok (.bipush 61, 2) := dk_16 61 (dk_at dksX2_fact_5 13 rfl rfl)
theorem dX2_fact_135 : decode cX2_fact 135 = .ok (.if_icmp .eq 13, 3) := dk_159 0 13 (dk_at dksX2_fact_5 15 rfl rfl)
theorem dX2_fact_138 : decode cX2_fact 138 = .ok (.aload_n 0, 1) := dk_42 (dk_at dksX2_fact_5 18 rfl rfl)
theorem dX2_fact_139 : decode cX2_fact 139 = .ok (.iconst 1, 1) := dk_4 (dk_at dksX2_fact_5 19 rfl rfl)
theorem dX2_fact_140 : decode cX2_fact 140 = .ok (.aload_n 0, 1) := dk_42 (dk_at dksX2_fact_5 20 rfl rfl)
theorem dX2_fact_141 : decode cX2_fact 141 = .ok (.getfield 36, 3) := dk_180 0 36 (dk_at dksX2_fact_5 21 rfl rfl)
theorem dX2_fact_144 : decode cX2_fact 144 = .ok (.invokevirtual 47, 3) := dk_182 0 47 (dk_at dksX2_fact_6 0 rfl rfl)
theorem dX2_fact_147 : decode cX2_fact 147 = .ok (.athrow, 1) := dk_191 (dk_at dksX2_fact_6 3 rfl rfl)
theorem dX2_fact_148 : decode cX2_fact 148 = .ok (.aload_n 0, 1) := dk_42 (dk_at dksX2_fact_6 4 rfl rfl)
theorem dX2_fact_149 : decode cX2_fact 149 = .ok (.dup, 1) := dk_89 (dk_at dksX2_fact_6 5 rfl rfl)
theorem dX2_fact_150 : decode cX2_fact 150 = .ok (.getfield 36, 3) := dk_180 0 36 (dk_at dksX2_fact_6 6 rfl rfl)
theorem dX2_fact_153 : decode cX2_fact 153 = .ok (.iconst 1, 1) := dk_4 (dk_at dksX2_fact_6 9 rfl rfl)
theorem dX2_fact_154 : decode cX2_fact 154 = .ok (.iadd, 1) := dk_96 (dk_at dksX2_fact_6 10 rfl rfl)
theorem dX2_fact_155 : decode cX2_fact 155 = .ok (.putfield 36, 3) := dk_181 0 36 (dk_at dksX2_fact_6 11 rfl rfl)
theorem dX2_fact_158 : decode cX2_fact 158 = .ok (.new 296, 3) := dk_187 1 40 (dk_at dksX2_fact_6 14 rfl rfl)
theorem dX2_fact_161 : decode cX2_fact 161 = .ok (.dup, 1) := dk_89 (dk_at dksX2_fact_6 17 rfl rfl)
theorem dX2_fact_162 : decode cX2_fact 162 = .ok (.aload_n 1, 1) := dk_43 (dk_at dksX2_fact_6 18 rfl rfl)
theorem dX2_fact_163 : decode cX2_fact 163 = .ok (.iload_n 2, 1) := dk_28 (dk_at dksX2_fact_6 19 rfl rfl)
theorem dX2_fact_164 : decode cX2_fact 164 = .ok (.aload_n 0, 1) := dk_42 (dk_at dksX2_fact_6 20 rfl rfl)
theorem dX2_fact_165 : decode cX2_fact 165 = .ok (.invokevirtual 203, 3) := dk_182 0 203 (dk_at dksX2_fact_6 21 rfl rfl)
theorem dX2_fact_168 : decode cX2_fact 168 = .ok (.invokespecial 298, 3) := dk_183 1 42 (dk_at dksX2_fact_7 0 rfl rfl)
theorem dX2_fact_171 : decode cX2_fact 171 = .ok (.areturn, 1) := dk_176 (dk_at dksX2_fact_7 3 rfl rfl)
abbrev cX2_passes : ByteArray := prog_14_method_9_code
def yX2_passes : MethodName := ⟨RX2, "passes", "(Ljava/lang/String;)Z"⟩
def dkwX2_passes_1 : List UInt8 := [182, 0, 74, 153, 0, 5, 4, 172, 42, 28, 181, 0, 36, 3, 172]
abbrev dktX2_passes_1 : List UInt8 := dkwX2_passes_1 ++ []
def dkwX2_passes_0 : List UInt8 := [42, 180, 0, 36, 61, 42, 182, 0, 43, 184, 0, 51, 154, 0, 5, 3, 172, 42, 182, 0, 70, 43]
abbrev dktX2_passes_0 : List UInt8 := dkwX2_passes_0 ++ dktX2_passes_1
theorem dksX2_passes_0 : cX2_passes.data.toList.drop 0 = dktX2_passes_0 := by decide +kernel
theorem dksX2_passes_1 : cX2_passes.data.toList.drop 22 = dktX2_passes_1 := dk_seg dksX2_passes_0 22 rfl rfl
theorem dX2_passes_0 : decode cX2_passes 0 = .ok (.aload_n 0, 1) := dk_42 (dk_at dksX2_passes_0 0 rfl rfl)
theorem dX2_passes_1 : decode cX2_passes 1 = .ok (.getfield 36, 3) := dk_180 0 36 (dk_at dksX2_passes_0 1 rfl rfl)
theorem dX2_passes_4 : decode cX2_passes 4 = .ok (.istore_n 2, 1) := dk_61 (dk_at dksX2_passes_0 4 rfl rfl)
theorem dX2_passes_5 : decode cX2_passes 5 = .ok (.aload_n 0, 1) := dk_42 (dk_at dksX2_passes_0 5 rfl rfl)
theorem dX2_passes_6 : decode cX2_passes 6 = .ok (.invokevirtual 43, 3) := dk_182 0 43 (dk_at dksX2_passes_0 6 rfl rfl)
theorem dX2_passes_9 : decode cX2_passes 9 = .ok (.invokestatic 51, 3) := dk_184 0 51 (dk_at dksX2_passes_0 9 rfl rfl)
theorem dX2_passes_12 : decode cX2_passes 12 = .ok (.ifCond .ne 5, 3) := dk_154 0 5 (dk_at dksX2_passes_0 12 rfl rfl)
theorem dX2_passes_15 : decode cX2_passes 15 = .ok (.iconst 0, 1) := dk_3 (dk_at dksX2_passes_0 15 rfl rfl)
theorem dX2_passes_16 : decode cX2_passes 16 = .ok (.ireturn, 1) := dk_172 (dk_at dksX2_passes_0 16 rfl rfl)
theorem dX2_passes_17 : decode cX2_passes 17 = .ok (.aload_n 0, 1) := dk_42 (dk_at dksX2_passes_0 17 rfl rfl)
theorem dX2_passes_18 : decode cX2_passes 18 = .ok (.invokevirtual 70, 3) := dk_182 0 70 (dk_at dksX2_passes_0 18 rfl rfl)
theorem dX2_passes_21 : decode cX2_passes 21 = .ok (.aload_n 1, 1) := dk_43 (dk_at dksX2_passes_0 21 rfl rfl)
theorem dX2_passes_22 : decode cX2_passes 22 = .ok (.invokevirtual 74, 3) := dk_182 0 74 (dk_at dksX2_passes_1 0 rfl rfl)
theorem dX2_passes_25 : decode cX2_passes 25 = .ok (.ifCond .eq 5, 3) := dk_153 0 5 (dk_at dksX2_passes_1 3 rfl rfl)
theorem dX2_passes_28 : decode cX2_passes 28 = .ok (.iconst 1, 1) := dk_4 (dk_at dksX2_passes_1 6 rfl rfl)
theorem dX2_passes_29 : decode cX2_passes 29 = .ok (.ireturn, 1) := dk_172 (dk_at dksX2_passes_1 7 rfl rfl)
theorem dX2_passes_30 : decode cX2_passes 30 = .ok (.aload_n 0, 1) := dk_42 (dk_at dksX2_passes_1 8 rfl rfl)
theorem dX2_passes_31 : decode cX2_passes 31 = .ok (.iload_n 2, 1) := dk_28 (dk_at dksX2_passes_1 9 rfl rfl)
theorem dX2_passes_32 : decode cX2_passes 32 = .ok (.putfield 36, 3) := dk_181 0 36 (dk_at dksX2_passes_1 10 rfl rfl)
theorem dX2_passes_35 : decode cX2_passes 35 = .ok (.iconst 0, 1) := dk_3 (dk_at dksX2_passes_1 13 rfl rfl)
theorem dX2_passes_36 : decode cX2_passes 36 = .ok (.ireturn, 1) := dk_172 (dk_at dksX2_passes_1 14 rfl rfl)
theorem q182 : (Jvm.Cond.initialized "BreathTown$Reader") ∈ lw_all := lw_g (lw_at lw_m1 6 rfl) rfl
theorem q260 : (Jvm.Cond.fieldLinkNest "BreathTown$Reader" (107 : Nat) "BreathTown$Town" "places" "Ljava/util/List;" "BreathTown") ∈ lw_tbl := lw_at lw_m1 84 rfl
theorem q263 : (Jvm.Cond.fieldLinkNest "BreathTown$Reader" (118 : Nat) "BreathTown$Town" "streets" "Ljava/util/List;" "BreathTown") ∈ lw_tbl := lw_at lw_m1 87 rfl
theorem q266 : (Jvm.Cond.fieldLinkNest "BreathTown$Reader" (121 : Nat) "BreathTown$Town" "walkers" "Ljava/util/List;" "BreathTown") ∈ lw_tbl := lw_at lw_m1 90 rfl
theorem q269 : (Jvm.Cond.fieldLinkNest "BreathTown$Reader" (135 : Nat) "BreathTown$Town" "statements" "I" "BreathTown") ∈ lw_tbl := lw_at lw_m1 93 rfl
theorem q271 : (Jvm.Cond.fieldLinkNest "BreathTown$Reader" (190 : Nat) "BreathTown$Town" "begin" "I" "BreathTown") ∈ lw_tbl := lw_at lw_m1 95 rfl
theorem q284 : (Jvm.Cond.instantiable "BreathTown$Reader" (8 : Nat)) ∈ lw_all := lw_g (lw_at lw_m1 108 rfl) rfl
theorem q286 : (Jvm.Cond.instanceMethod ({ cls := "BreathTown$Reader", name := "<init>", desc := "(LBreathTown;)V" } : Jvm.MethodName)) ∈ lw_all := lw_g (lw_at lw_m1 110 rfl) rfl
theorem q287 : (Jvm.Cond.code ({ cls := "BreathTown$Reader", name := "<init>", desc := "(LBreathTown;)V" } : Jvm.MethodName) prog_14_method_1_code (2 : Nat) (Option.none : Option Jvm.ClassFile.FieldType)) ∈ lw_all := lw_g (lw_at lw_m1 111 rfl) rfl
theorem q288 : (Jvm.Cond.methodLink "BreathTown$Reader" (9 : Nat) ({ cls := "java/lang/Object", name := "<init>", desc := "()V" } : Jvm.MethodName)) ∈ lw_all := lw_g (lw_at lw_m1 112 rfl) rfl
theorem q289 : (Jvm.Cond.classLink "BreathTown$Reader" (15 : Nat) "BreathTown$Fault") ∈ lw_all := lw_g (lw_at lw_m1 113 rfl) rfl
theorem q328 : (Jvm.Cond.methodLink "BreathTown$Reader" (17 : Nat) ({ cls := "BreathTown$Fault", name := "<init>", desc := "()V" } : Jvm.MethodName)) ∈ lw_all := lw_g (lw_at lw_m1 152 rfl) rfl
theorem q340 : (Jvm.Cond.fieldLinkNest "BreathTown$Reader" (22 : Nat) "BreathTown$Fault" "kind" "I" "BreathTown") ∈ lw_tbl := lw_at lw_m1 164 rfl
theorem q342 : (Jvm.Cond.fieldLinkNest "BreathTown$Reader" (26 : Nat) "BreathTown$Fault" "place" "I" "BreathTown") ∈ lw_tbl := lw_at lw_m1 166 rfl
theorem q362 : (Jvm.Cond.fieldLink "BreathTown$Reader" (18 : Nat) "BreathTown$Reader" "fault" "LBreathTown$Fault;") ∈ lw_all := lw_g (lw_at lw_m1 186 rfl) rfl
theorem q363 : (Jvm.Cond.fieldLink "BreathTown$Reader" (29 : Nat) "BreathTown$Reader" "size" "I") ∈ lw_all := lw_g (lw_at lw_m1 187 rfl) rfl
theorem q364 : (Jvm.Cond.fieldLink "BreathTown$Reader" (36 : Nat) "BreathTown$Reader" "at" "I") ∈ lw_all := lw_g (lw_at lw_m1 188 rfl) rfl
theorem q365 : (Jvm.Cond.fieldLink "BreathTown$Reader" (61 : Nat) "BreathTown$Reader" "from" "I") ∈ lw_all := lw_g (lw_at lw_m1 189 rfl) rfl
theorem q366 : (Jvm.Cond.fieldLink "BreathTown$Reader" (128 : Nat) "BreathTown$Reader" "open" "I") ∈ lw_all := lw_g (lw_at lw_m1 190 rfl) rfl
theorem q367 : (Jvm.Cond.fieldLink "BreathTown$Reader" (131 : Nat) "BreathTown$Reader" "isQuestion" "Z") ∈ lw_all := lw_g (lw_at lw_m1 191 rfl) rfl
theorem q368 : (Jvm.Cond.fieldLink "BreathTown$Reader" (103 : Nat) "BreathTown$Reader" "to" "LBreathTown$Town;") ∈ lw_all := lw_g (lw_at lw_m1 192 rfl) rfl
theorem q369 : (Jvm.Cond.fieldLink "BreathTown$Reader" (3 : Nat) "BreathTown$Reader" "this$0" "LBreathTown;") ∈ lw_all := lw_g (lw_at lw_m1 193 rfl) rfl
theorem q370 : (Jvm.Cond.laysFinal "BreathTown$Reader" "BreathTown$Reader" "fault" "LBreathTown$Fault;") ∈ lw_all := lw_g (lw_at lw_m1 194 rfl) rfl
theorem q371 : (Jvm.Cond.soleField "BreathTown$Reader" "fault") ∈ lw_all := lw_g (lw_at lw_m1 195 rfl) rfl
theorem q372 : (Jvm.Cond.lays "BreathTown$Reader" "BreathTown$Reader" "size" "I") ∈ lw_all := lw_g (lw_at lw_m1 196 rfl) rfl
theorem q373 : (Jvm.Cond.soleField "BreathTown$Reader" "size") ∈ lw_all := lw_g (lw_at lw_m1 197 rfl) rfl
theorem q374 : (Jvm.Cond.lays "BreathTown$Reader" "BreathTown$Reader" "at" "I") ∈ lw_all := lw_g (lw_at lw_m1 198 rfl) rfl
theorem q375 : (Jvm.Cond.soleField "BreathTown$Reader" "at") ∈ lw_all := lw_g (lw_at lw_m1 199 rfl) rfl
theorem q376 : (Jvm.Cond.lays "BreathTown$Reader" "BreathTown$Reader" "from" "I") ∈ lw_all := lw_g (lw_at lw_m1 200 rfl) rfl
theorem q377 : (Jvm.Cond.soleField "BreathTown$Reader" "from") ∈ lw_all := lw_g (lw_at lw_m1 201 rfl) rfl
theorem q378 : (Jvm.Cond.lays "BreathTown$Reader" "BreathTown$Reader" "open" "I") ∈ lw_all := lw_g (lw_at lw_m1 202 rfl) rfl
theorem q379 : (Jvm.Cond.soleField "BreathTown$Reader" "open") ∈ lw_all := lw_g (lw_at lw_m1 203 rfl) rfl
theorem q380 : (Jvm.Cond.lays "BreathTown$Reader" "BreathTown$Reader" "isQuestion" "Z") ∈ lw_all := lw_g (lw_at lw_m1 204 rfl) rfl
theorem q381 : (Jvm.Cond.soleField "BreathTown$Reader" "isQuestion") ∈ lw_all := lw_g (lw_at lw_m1 205 rfl) rfl
theorem q382 : (Jvm.Cond.lays "BreathTown$Reader" "BreathTown$Reader" "to" "LBreathTown$Town;") ∈ lw_all := lw_g (lw_at lw_m1 206 rfl) rfl
theorem q383 : (Jvm.Cond.soleField "BreathTown$Reader" "to") ∈ lw_all := lw_g (lw_at lw_m1 207 rfl) rfl
theorem q384 : (Jvm.Cond.laysFinal "BreathTown$Reader" "BreathTown$Reader" "this$0" "LBreathTown;") ∈ lw_all := lw_g (lw_at lw_m1 208 rfl) rfl
theorem q385 : (Jvm.Cond.soleField "BreathTown$Reader" "this$0") ∈ lw_all := lw_g (lw_at lw_m1 209 rfl) rfl
theorem q386 : (Jvm.Cond.superclass "BreathTown$Reader" "java/lang/Object") ∈ lw_all := lw_g (lw_at lw_m1 210 rfl) rfl
theorem q436 : (Jvm.Cond.fieldLinkNest "BreathTown$Reader" (32 : Nat) "BreathTown" "tape" "[B" "BreathTown") ∈ lw_tbl := lw_at lw_m2 20 rfl
theorem q569 : (Jvm.Cond.instanceMethod ({ cls := "BreathTown$Reader", name := "all", desc := "(I)LBreathTown$Town;" } : Jvm.MethodName)) ∈ lw_all := lw_g (lw_at lw_m2 153 rfl) rfl
theorem q570 : (Jvm.Cond.selects "BreathTown$Reader" ({ cls := "BreathTown$Reader", name := "all", desc := "(I)LBreathTown$Town;" } : Jvm.MethodName) ({ cls := "BreathTown$Reader", name := "all", desc := "(I)LBreathTown$Town;" } : Jvm.MethodName)) ∈ lw_all := lw_g (lw_at lw_m2 154 rfl) rfl
theorem q571 : (Jvm.Cond.code ({ cls := "BreathTown$Reader", name := "all", desc := "(I)LBreathTown$Town;" } : Jvm.MethodName) prog_14_method_17_code (3 : Nat) (Option.some (Jvm.ClassFile.FieldType.object "BreathTown$Town"))) ∈ lw_all := lw_g (lw_at lw_m2 155 rfl) rfl
theorem q572 : (Jvm.Cond.classLink "BreathTown$Reader" (108 : Nat) "BreathTown$Town") ∈ lw_all := lw_g (lw_at lw_m2 156 rfl) rfl
theorem q573 : (Jvm.Cond.methodLinkNest "BreathTown$Reader" (127 : Nat) ({ cls := "BreathTown$Town", name := "<init>", desc := "()V" } : Jvm.MethodName) "BreathTown") ∈ lw_tbl := lw_at lw_m2 157 rfl
theorem q574 : (Jvm.Cond.methodLink "BreathTown$Reader" (43 : Nat) ({ cls := "BreathTown$Reader", name := "here", desc := "()I" } : Jvm.MethodName)) ∈ lw_all := lw_g (lw_at lw_m2 158 rfl) rfl
theorem q575 : (Jvm.Cond.privateMethod ({ cls := "BreathTown$Reader", name := "here", desc := "()I" } : Jvm.MethodName)) ∈ lw_tbl := lw_at lw_m2 159 rfl
theorem q576 : (Jvm.Cond.instanceMethod ({ cls := "BreathTown$Reader", name := "here", desc := "()I" } : Jvm.MethodName)) ∈ lw_all := lw_g (lw_at lw_m2 160 rfl) rfl
theorem q577 : (Jvm.Cond.code ({ cls := "BreathTown$Reader", name := "here", desc := "()I" } : Jvm.MethodName) prog_14_method_4_code (1 : Nat) (Option.some Jvm.ClassFile.FieldType.int)) ∈ lw_all := lw_g (lw_at lw_m2 161 rfl) rfl
theorem q578 : (Jvm.Cond.methodLink "BreathTown$Reader" (39 : Nat) ({ cls := "BreathTown$Reader", name := "byteAt", desc := "(I)I" } : Jvm.MethodName)) ∈ lw_all := lw_g (lw_at lw_m2 162 rfl) rfl
theorem q579 : (Jvm.Cond.privateMethod ({ cls := "BreathTown$Reader", name := "byteAt", desc := "(I)I" } : Jvm.MethodName)) ∈ lw_tbl := lw_at lw_m2 163 rfl
theorem q580 : (Jvm.Cond.instanceMethod ({ cls := "BreathTown$Reader", name := "byteAt", desc := "(I)I" } : Jvm.MethodName)) ∈ lw_all := lw_g (lw_at lw_m2 164 rfl) rfl
theorem q581 : (Jvm.Cond.code ({ cls := "BreathTown$Reader", name := "byteAt", desc := "(I)I" } : Jvm.MethodName) prog_14_method_3_code (2 : Nat) (Option.some Jvm.ClassFile.FieldType.int)) ∈ lw_all := lw_g (lw_at lw_m2 165 rfl) rfl
theorem q582 : (Jvm.Cond.methodLink "BreathTown$Reader" (138 : Nat) ({ cls := "BreathTown$Reader", name := "most", desc := "(ZI)V" } : Jvm.MethodName)) ∈ lw_all := lw_g (lw_at lw_m2 166 rfl) rfl
theorem q583 : (Jvm.Cond.privateMethod ({ cls := "BreathTown$Reader", name := "most", desc := "(ZI)V" } : Jvm.MethodName)) ∈ lw_tbl := lw_at lw_m2 167 rfl
theorem q584 : (Jvm.Cond.instanceMethod ({ cls := "BreathTown$Reader", name := "most", desc := "(ZI)V" } : Jvm.MethodName)) ∈ lw_all := lw_g (lw_at lw_m2 168 rfl) rfl
theorem q585 : (Jvm.Cond.code ({ cls := "BreathTown$Reader", name := "most", desc := "(ZI)V" } : Jvm.MethodName) prog_14_method_16_code (3 : Nat) (Option.none : Option Jvm.ClassFile.FieldType)) ∈ lw_all := lw_g (lw_at lw_m2 169 rfl) rfl
theorem q586 : (Jvm.Cond.methodLink "BreathTown$Reader" (47 : Nat) ({ cls := "BreathTown$Reader", name := "wrong", desc := "(II)LBreathTown$Fault;" } : Jvm.MethodName)) ∈ lw_all := lw_g (lw_at lw_m2 170 rfl) rfl
theorem q587 : (Jvm.Cond.privateMethod ({ cls := "BreathTown$Reader", name := "wrong", desc := "(II)LBreathTown$Fault;" } : Jvm.MethodName)) ∈ lw_tbl := lw_at lw_m2 171 rfl
theorem q588 : (Jvm.Cond.instanceMethod ({ cls := "BreathTown$Reader", name := "wrong", desc := "(II)LBreathTown$Fault;" } : Jvm.MethodName)) ∈ lw_all := lw_g (lw_at lw_m2 172 rfl) rfl
theorem q589 : (Jvm.Cond.code ({ cls := "BreathTown$Reader", name := "wrong", desc := "(II)LBreathTown$Fault;" } : Jvm.MethodName) prog_14_method_2_code (3 : Nat) (Option.some (Jvm.ClassFile.FieldType.object "BreathTown$Fault"))) ∈ lw_all := lw_g (lw_at lw_m2 173 rfl) rfl
theorem q590 : (Jvm.Cond.methodLink "BreathTown$Reader" (70 : Nat) ({ cls := "BreathTown$Reader", name := "word", desc := "()Ljava/lang/String;" } : Jvm.MethodName)) ∈ lw_all := lw_g (lw_at lw_m2 174 rfl) rfl
theorem q591 : (Jvm.Cond.privateMethod ({ cls := "BreathTown$Reader", name := "word", desc := "()Ljava/lang/String;" } : Jvm.MethodName)) ∈ lw_tbl := lw_at lw_m2 175 rfl
theorem q592 : (Jvm.Cond.instanceMethod ({ cls := "BreathTown$Reader", name := "word", desc := "()Ljava/lang/String;" } : Jvm.MethodName)) ∈ lw_all := lw_g (lw_at lw_m2 176 rfl) rfl
theorem q593 : (Jvm.Cond.code ({ cls := "BreathTown$Reader", name := "word", desc := "()Ljava/lang/String;" } : Jvm.MethodName) prog_14_method_7_code (3 : Nat) (Option.some (Jvm.ClassFile.FieldType.object "java/lang/String"))) ∈ lw_all := lw_g (lw_at lw_m2 177 rfl) rfl
theorem q594 : (Jvm.Cond.methodLinkNest "BreathTown$Reader" (51 : Nat) ({ cls := "BreathTown", name := "isLetter", desc := "(I)Z" } : Jvm.MethodName) "BreathTown") ∈ lw_tbl := lw_at lw_m2 178 rfl
theorem q597 : (Jvm.Cond.methodLink "BreathTown$Reader" (58 : Nat) ({ cls := "BreathTown$Reader", name := "parted", desc := "()V" } : Jvm.MethodName)) ∈ lw_all := lw_g (lw_at lw_m2 181 rfl) rfl
theorem q598 : (Jvm.Cond.privateMethod ({ cls := "BreathTown$Reader", name := "parted", desc := "()V" } : Jvm.MethodName)) ∈ lw_tbl := lw_at lw_m2 182 rfl
theorem q599 : (Jvm.Cond.instanceMethod ({ cls := "BreathTown$Reader", name := "parted", desc := "()V" } : Jvm.MethodName)) ∈ lw_all := lw_g (lw_at lw_m2 183 rfl) rfl
theorem q600 : (Jvm.Cond.code ({ cls := "BreathTown$Reader", name := "parted", desc := "()V" } : Jvm.MethodName) prog_14_method_6_code (1 : Nat) (Option.none : Option Jvm.ClassFile.FieldType)) ∈ lw_all := lw_g (lw_at lw_m2 184 rfl) rfl
theorem q601 : (Jvm.Cond.methodLinkNest "BreathTown$Reader" (55 : Nat) ({ cls := "BreathTown", name := "isDigit", desc := "(I)Z" } : Jvm.MethodName) "BreathTown") ∈ lw_tbl := lw_at lw_m2 185 rfl
theorem q604 : (Jvm.Cond.methodLink "BreathTown$Reader" (64 : Nat) ({ cls := "java/lang/String", name := "valueOf", desc := "([C)Ljava/lang/String;" } : Jvm.MethodName)) ∈ lw_all := lw_g (lw_at lw_m2 188 rfl) rfl
theorem q682 : (Jvm.Cond.methodLink "BreathTown$Reader" (142 : Nat) ({ cls := "BreathTown$Reader", name := "told", desc := "(Ljava/lang/String;I)V" } : Jvm.MethodName)) ∈ lw_all := lw_g (lw_at lw_m3 26 rfl) rfl
theorem q683 : (Jvm.Cond.privateMethod ({ cls := "BreathTown$Reader", name := "told", desc := "(Ljava/lang/String;I)V" } : Jvm.MethodName)) ∈ lw_tbl := lw_at lw_m3 27 rfl
theorem q684 : (Jvm.Cond.instanceMethod ({ cls := "BreathTown$Reader", name := "told", desc := "(Ljava/lang/String;I)V" } : Jvm.MethodName)) ∈ lw_all := lw_g (lw_at lw_m3 28 rfl) rfl
theorem q685 : (Jvm.Cond.code ({ cls := "BreathTown$Reader", name := "told", desc := "(Ljava/lang/String;I)V" } : Jvm.MethodName) prog_14_method_18_code (8 : Nat) (Option.none : Option Jvm.ClassFile.FieldType)) ∈ lw_all := lw_g (lw_at lw_m3 29 rfl) rfl
theorem q686 : (Jvm.Cond.methodLink "BreathTown$Reader" (150 : Nat) ({ cls := "java/lang/String", name := "hashCode", desc := "()I" } : Jvm.MethodName)) ∈ lw_all := lw_g (lw_at lw_m3 30 rfl) rfl
theorem q739 : (Jvm.Cond.stringRef "BreathTown$Reader" (153 : Nat) "place") ∈ lw_tbl := lw_at lw_m3 83 rfl
theorem q740 : (Jvm.Cond.methodLink "BreathTown$Reader" (74 : Nat) ({ cls := "java/lang/String", name := "equals", desc := "(Ljava/lang/Object;)Z" } : Jvm.MethodName)) ∈ lw_all := lw_g (lw_at lw_m3 84 rfl) rfl
theorem q747 : (Jvm.Cond.stringRef "BreathTown$Reader" (154 : Nat) "street") ∈ lw_tbl := lw_at lw_m3 91 rfl
theorem q748 : (Jvm.Cond.stringRef "BreathTown$Reader" (156 : Nat) "walker") ∈ lw_tbl := lw_at lw_m3 92 rfl
theorem q749 : (Jvm.Cond.stringRef "BreathTown$Reader" (158 : Nat) "begin") ∈ lw_tbl := lw_at lw_m3 93 rfl
theorem q750 : (Jvm.Cond.interfaceEntry "BreathTown$Reader" (160 : Nat)) ∈ lw_tbl := lw_at lw_m3 94 rfl
theorem q751 : (Jvm.Cond.methodLink "BreathTown$Reader" (160 : Nat) ({ cls := "java/util/List", name := "size", desc := "()I" } : Jvm.MethodName)) ∈ lw_all := lw_g (lw_at lw_m3 95 rfl) rfl
theorem q760 : (Jvm.Cond.classLink "BreathTown$Reader" (114 : Nat) "BreathTown$Named") ∈ lw_all := lw_g (lw_at lw_m3 104 rfl) rfl
theorem q762 : (Jvm.Cond.methodLink "BreathTown$Reader" (164 : Nat) ({ cls := "BreathTown$Reader", name := "fresh", desc := "()Ljava/lang/String;" } : Jvm.MethodName)) ∈ lw_all := lw_g (lw_at lw_m3 106 rfl) rfl
theorem q763 : (Jvm.Cond.privateMethod ({ cls := "BreathTown$Reader", name := "fresh", desc := "()Ljava/lang/String;" } : Jvm.MethodName)) ∈ lw_tbl := lw_at lw_m3 107 rfl
theorem q764 : (Jvm.Cond.instanceMethod ({ cls := "BreathTown$Reader", name := "fresh", desc := "()Ljava/lang/String;" } : Jvm.MethodName)) ∈ lw_all := lw_g (lw_at lw_m3 108 rfl) rfl
theorem q765 : (Jvm.Cond.code ({ cls := "BreathTown$Reader", name := "fresh", desc := "()Ljava/lang/String;" } : Jvm.MethodName) prog_14_method_13_code (3 : Nat) (Option.some (Jvm.ClassFile.FieldType.object "java/lang/String"))) ∈ lw_all := lw_g (lw_at lw_m3 109 rfl) rfl
theorem q766 : (Jvm.Cond.methodLink "BreathTown$Reader" (100 : Nat) ({ cls := "BreathTown$Reader", name := "name", desc := "()Ljava/lang/String;" } : Jvm.MethodName)) ∈ lw_all := lw_g (lw_at lw_m3 110 rfl) rfl
theorem q767 : (Jvm.Cond.privateMethod ({ cls := "BreathTown$Reader", name := "name", desc := "()Ljava/lang/String;" } : Jvm.MethodName)) ∈ lw_tbl := lw_at lw_m3 111 rfl
theorem q768 : (Jvm.Cond.instanceMethod ({ cls := "BreathTown$Reader", name := "name", desc := "()Ljava/lang/String;" } : Jvm.MethodName)) ∈ lw_all := lw_g (lw_at lw_m3 112 rfl) rfl
theorem q769 : (Jvm.Cond.code ({ cls := "BreathTown$Reader", name := "name", desc := "()Ljava/lang/String;" } : Jvm.MethodName) prog_14_method_10_code (2 : Nat) (Option.some (Jvm.ClassFile.FieldType.object "java/lang/String"))) ∈ lw_all := lw_g (lw_at lw_m3 113 rfl) rfl
theorem q770 : (Jvm.Cond.fieldLinkNest "BreathTown$Reader" (78 : Nat) "BreathTown" "OWN" "[Ljava/lang/String;" "BreathTown") ∈ lw_tbl := lw_at lw_m3 114 rfl
theorem q772 : (Jvm.Cond.methodLinkNest "BreathTown$Reader" (82 : Nat) ({ cls := "BreathTown", name := "find", desc := "(Ljava/lang/String;[Ljava/lang/String;)I" } : Jvm.MethodName) "BreathTown") ∈ lw_tbl := lw_at lw_m3 116 rfl
theorem q776 : (Jvm.Cond.methodLink "BreathTown$Reader" (86 : Nat) ({ cls := "java/lang/String", name := "length", desc := "()I" } : Jvm.MethodName)) ∈ lw_all := lw_g (lw_at lw_m3 120 rfl) rfl
theorem q784 : (Jvm.Cond.methodLink "BreathTown$Reader" (113 : Nat) ({ cls := "BreathTown$Named", name := "find", desc := "(Ljava/util/List;Ljava/lang/String;)I" } : Jvm.MethodName)) ∈ lw_all := lw_g (lw_at lw_m3 128 rfl) rfl
theorem q810 : (Jvm.Cond.methodLink "BreathTown$Reader" (167 : Nat) ({ cls := "BreathTown$Named", name := "<init>", desc := "(Ljava/lang/String;)V" } : Jvm.MethodName)) ∈ lw_all := lw_g (lw_at lw_m3 154 rfl) rfl
theorem q818 : (Jvm.Cond.interfaceEntry "BreathTown$Reader" (169 : Nat)) ∈ lw_tbl := lw_at lw_m3 162 rfl
theorem q819 : (Jvm.Cond.methodLink "BreathTown$Reader" (169 : Nat) ({ cls := "java/util/List", name := "add", desc := "(Ljava/lang/Object;)Z" } : Jvm.MethodName)) ∈ lw_all := lw_g (lw_at lw_m3 163 rfl) rfl
theorem q870 : (Jvm.Cond.selects "BreathTown$Reader" ({ cls := "java/lang/Object", name := "getClass", desc := "()Ljava/lang/Class;" } : Jvm.MethodName) ({ cls := "java/lang/Object", name := "getClass", desc := "()Ljava/lang/Class;" } : Jvm.MethodName)) ∈ lw_all := lw_g (lw_at lw_m3 214 rfl) rfl
theorem q894 : (Jvm.Cond.methodLink "BreathTown$Reader" (172 : Nat) ({ cls := "BreathTown$Reader", name := "street", desc := "()V" } : Jvm.MethodName)) ∈ lw_all := lw_g (lw_at lw_m3 238 rfl) rfl
theorem q895 : (Jvm.Cond.privateMethod ({ cls := "BreathTown$Reader", name := "street", desc := "()V" } : Jvm.MethodName)) ∈ lw_tbl := lw_at lw_m3 239 rfl
theorem q896 : (Jvm.Cond.instanceMethod ({ cls := "BreathTown$Reader", name := "street", desc := "()V" } : Jvm.MethodName)) ∈ lw_all := lw_g (lw_at lw_m4 0 rfl) rfl
theorem q897 : (Jvm.Cond.code ({ cls := "BreathTown$Reader", name := "street", desc := "()V" } : Jvm.MethodName) prog_14_method_19_code (7 : Nat) (Option.none : Option Jvm.ClassFile.FieldType)) ∈ lw_all := lw_g (lw_at lw_m4 1 rfl) rfl
theorem q898 : (Jvm.Cond.stringRef "BreathTown$Reader" (192 : Nat) "from") ∈ lw_tbl := lw_at lw_m4 2 rfl
theorem q899 : (Jvm.Cond.methodLink "BreathTown$Reader" (124 : Nat) ({ cls := "BreathTown$Reader", name := "place", desc := "(Ljava/lang/String;)I" } : Jvm.MethodName)) ∈ lw_all := lw_g (lw_at lw_m4 3 rfl) rfl
theorem q900 : (Jvm.Cond.privateMethod ({ cls := "BreathTown$Reader", name := "place", desc := "(Ljava/lang/String;)I" } : Jvm.MethodName)) ∈ lw_tbl := lw_at lw_m4 4 rfl
theorem q901 : (Jvm.Cond.instanceMethod ({ cls := "BreathTown$Reader", name := "place", desc := "(Ljava/lang/String;)I" } : Jvm.MethodName)) ∈ lw_all := lw_g (lw_at lw_m4 5 rfl) rfl
theorem q902 : (Jvm.Cond.code ({ cls := "BreathTown$Reader", name := "place", desc := "(Ljava/lang/String;)I" } : Jvm.MethodName) prog_14_method_14_code (3 : Nat) (Option.some Jvm.ClassFile.FieldType.int)) ∈ lw_all := lw_g (lw_at lw_m4 6 rfl) rfl
theorem q903 : (Jvm.Cond.methodLink "BreathTown$Reader" (93 : Nat) ({ cls := "BreathTown$Reader", name := "word", desc := "(Ljava/lang/String;)V" } : Jvm.MethodName)) ∈ lw_all := lw_g (lw_at lw_m4 7 rfl) rfl
theorem q904 : (Jvm.Cond.privateMethod ({ cls := "BreathTown$Reader", name := "word", desc := "(Ljava/lang/String;)V" } : Jvm.MethodName)) ∈ lw_tbl := lw_at lw_m4 8 rfl
theorem q905 : (Jvm.Cond.instanceMethod ({ cls := "BreathTown$Reader", name := "word", desc := "(Ljava/lang/String;)V" } : Jvm.MethodName)) ∈ lw_all := lw_g (lw_at lw_m4 9 rfl) rfl
theorem q906 : (Jvm.Cond.code ({ cls := "BreathTown$Reader", name := "word", desc := "(Ljava/lang/String;)V" } : Jvm.MethodName) prog_14_method_8_code (2 : Nat) (Option.none : Option Jvm.ClassFile.FieldType)) ∈ lw_all := lw_g (lw_at lw_m4 10 rfl) rfl
theorem q907 : (Jvm.Cond.stringRef "BreathTown$Reader" (182 : Nat) "to") ∈ lw_tbl := lw_at lw_m4 11 rfl
theorem q908 : (Jvm.Cond.methodLink "BreathTown$Reader" (183 : Nat) ({ cls := "BreathTown$Reader", name := "placeBut", desc := "(Ljava/lang/String;I)I" } : Jvm.MethodName)) ∈ lw_all := lw_g (lw_at lw_m4 12 rfl) rfl
theorem q909 : (Jvm.Cond.privateMethod ({ cls := "BreathTown$Reader", name := "placeBut", desc := "(Ljava/lang/String;I)I" } : Jvm.MethodName)) ∈ lw_tbl := lw_at lw_m4 13 rfl
theorem q910 : (Jvm.Cond.instanceMethod ({ cls := "BreathTown$Reader", name := "placeBut", desc := "(Ljava/lang/String;I)I" } : Jvm.MethodName)) ∈ lw_all := lw_g (lw_at lw_m4 14 rfl) rfl
theorem q911 : (Jvm.Cond.code ({ cls := "BreathTown$Reader", name := "placeBut", desc := "(Ljava/lang/String;I)I" } : Jvm.MethodName) prog_14_method_15_code (4 : Nat) (Option.some Jvm.ClassFile.FieldType.int)) ∈ lw_all := lw_g (lw_at lw_m4 15 rfl) rfl
theorem q912 : (Jvm.Cond.stringRef "BreathTown$Reader" (193 : Nat) "takes") ∈ lw_tbl := lw_at lw_m4 16 rfl
theorem q913 : (Jvm.Cond.methodLink "BreathTown$Reader" (176 : Nat) ({ cls := "BreathTown$Reader", name := "number", desc := "(Ljava/lang/String;II)I" } : Jvm.MethodName)) ∈ lw_all := lw_g (lw_at lw_m4 17 rfl) rfl
theorem q914 : (Jvm.Cond.privateMethod ({ cls := "BreathTown$Reader", name := "number", desc := "(Ljava/lang/String;II)I" } : Jvm.MethodName)) ∈ lw_tbl := lw_at lw_m4 18 rfl
theorem q915 : (Jvm.Cond.instanceMethod ({ cls := "BreathTown$Reader", name := "number", desc := "(Ljava/lang/String;II)I" } : Jvm.MethodName)) ∈ lw_all := lw_g (lw_at lw_m4 19 rfl) rfl
theorem q916 : (Jvm.Cond.code ({ cls := "BreathTown$Reader", name := "number", desc := "(Ljava/lang/String;II)I" } : Jvm.MethodName) prog_14_method_12_code (4 : Nat) (Option.some Jvm.ClassFile.FieldType.int)) ∈ lw_all := lw_g (lw_at lw_m4 20 rfl) rfl
theorem q917 : (Jvm.Cond.methodLink "BreathTown$Reader" (96 : Nat) ({ cls := "BreathTown$Reader", name := "number", desc := "(II)I" } : Jvm.MethodName)) ∈ lw_all := lw_g (lw_at lw_m4 21 rfl) rfl
theorem q918 : (Jvm.Cond.privateMethod ({ cls := "BreathTown$Reader", name := "number", desc := "(II)I" } : Jvm.MethodName)) ∈ lw_tbl := lw_at lw_m4 22 rfl
theorem q919 : (Jvm.Cond.instanceMethod ({ cls := "BreathTown$Reader", name := "number", desc := "(II)I" } : Jvm.MethodName)) ∈ lw_all := lw_g (lw_at lw_m4 23 rfl) rfl
theorem q920 : (Jvm.Cond.code ({ cls := "BreathTown$Reader", name := "number", desc := "(II)I" } : Jvm.MethodName) prog_14_method_11_code (4 : Nat) (Option.some Jvm.ClassFile.FieldType.int)) ∈ lw_all := lw_g (lw_at lw_m4 24 rfl) rfl
theorem q921 : (Jvm.Cond.methodLinkNest "BreathTown$Reader" (89 : Nat) ({ cls := "BreathTown", name := "is", desc := "(III)Z" } : Jvm.MethodName) "BreathTown") ∈ lw_tbl := lw_at lw_m4 25 rfl
theorem q924 : (Jvm.Cond.stringRef "BreathTown$Reader" (195 : Nat) "round") ∈ lw_tbl := lw_at lw_m4 28 rfl
theorem q925 : (Jvm.Cond.stringRef "BreathTown$Reader" (197 : Nat) "shift") ∈ lw_tbl := lw_at lw_m4 29 rfl
theorem q926 : (Jvm.Cond.stringRef "BreathTown$Reader" (199 : Nat) "wide") ∈ lw_tbl := lw_at lw_m4 30 rfl
theorem q927 : (Jvm.Cond.classLink "BreathTown$Reader" (201 : Nat) "BreathTown$Street") ∈ lw_all := lw_g (lw_at lw_m4 31 rfl) rfl
theorem q929 : (Jvm.Cond.methodLink "BreathTown$Reader" (203 : Nat) ({ cls := "BreathTown$Reader", name := "sum", desc := "()LBreathTown$Value;" } : Jvm.MethodName)) ∈ lw_all := lw_g (lw_at lw_m4 33 rfl) rfl
theorem q930 : (Jvm.Cond.privateMethod ({ cls := "BreathTown$Reader", name := "sum", desc := "()LBreathTown$Value;" } : Jvm.MethodName)) ∈ lw_tbl := lw_at lw_m4 34 rfl
theorem q931 : (Jvm.Cond.instanceMethod ({ cls := "BreathTown$Reader", name := "sum", desc := "()LBreathTown$Value;" } : Jvm.MethodName)) ∈ lw_all := lw_g (lw_at lw_m4 35 rfl) rfl
theorem q932 : (Jvm.Cond.code ({ cls := "BreathTown$Reader", name := "sum", desc := "()LBreathTown$Value;" } : Jvm.MethodName) prog_14_method_21_code (3 : Nat) (Option.some (Jvm.ClassFile.FieldType.object "BreathTown$Value"))) ∈ lw_all := lw_g (lw_at lw_m4 36 rfl) rfl
theorem q933 : (Jvm.Cond.classLink "BreathTown$Reader" (210 : Nat) "BreathTown$Chain") ∈ lw_all := lw_g (lw_at lw_m4 37 rfl) rfl
theorem q935 : (Jvm.Cond.methodLinkNest "BreathTown$Reader" (212 : Nat) ({ cls := "BreathTown$Chain", name := "<init>", desc := "()V" } : Jvm.MethodName) "BreathTown") ∈ lw_tbl := lw_at lw_m4 39 rfl
theorem q974 : (Jvm.Cond.methodLink "BreathTown$Reader" (213 : Nat) ({ cls := "BreathTown$Reader", name := "product", desc := "()LBreathTown$Value;" } : Jvm.MethodName)) ∈ lw_all := lw_g (lw_at lw_m4 78 rfl) rfl
theorem q975 : (Jvm.Cond.privateMethod ({ cls := "BreathTown$Reader", name := "product", desc := "()LBreathTown$Value;" } : Jvm.MethodName)) ∈ lw_tbl := lw_at lw_m4 79 rfl
theorem q976 : (Jvm.Cond.instanceMethod ({ cls := "BreathTown$Reader", name := "product", desc := "()LBreathTown$Value;" } : Jvm.MethodName)) ∈ lw_all := lw_g (lw_at lw_m4 80 rfl) rfl
theorem q977 : (Jvm.Cond.code ({ cls := "BreathTown$Reader", name := "product", desc := "()LBreathTown$Value;" } : Jvm.MethodName) prog_14_method_22_code (3 : Nat) (Option.some (Jvm.ClassFile.FieldType.object "BreathTown$Value"))) ∈ lw_all := lw_g (lw_at lw_m4 81 rfl) rfl
theorem q978 : (Jvm.Cond.methodLink "BreathTown$Reader" (221 : Nat) ({ cls := "BreathTown$Reader", name := "atom", desc := "()LBreathTown$Value;" } : Jvm.MethodName)) ∈ lw_all := lw_g (lw_at lw_m4 82 rfl) rfl
theorem q979 : (Jvm.Cond.privateMethod ({ cls := "BreathTown$Reader", name := "atom", desc := "()LBreathTown$Value;" } : Jvm.MethodName)) ∈ lw_tbl := lw_at lw_m4 83 rfl
theorem q980 : (Jvm.Cond.instanceMethod ({ cls := "BreathTown$Reader", name := "atom", desc := "()LBreathTown$Value;" } : Jvm.MethodName)) ∈ lw_all := lw_g (lw_at lw_m4 84 rfl) rfl
theorem q981 : (Jvm.Cond.code ({ cls := "BreathTown$Reader", name := "atom", desc := "()LBreathTown$Value;" } : Jvm.MethodName) prog_14_method_25_code (3 : Nat) (Option.some (Jvm.ClassFile.FieldType.object "BreathTown$Value"))) ∈ lw_all := lw_g (lw_at lw_m4 85 rfl) rfl
theorem q982 : (Jvm.Cond.methodLink "BreathTown$Reader" (232 : Nat) ({ cls := "BreathTown$Reader", name := "within", desc := "(I)LBreathTown$Value;" } : Jvm.MethodName)) ∈ lw_all := lw_g (lw_at lw_m4 86 rfl) rfl
theorem q983 : (Jvm.Cond.privateMethod ({ cls := "BreathTown$Reader", name := "within", desc := "(I)LBreathTown$Value;" } : Jvm.MethodName)) ∈ lw_tbl := lw_at lw_m4 87 rfl
theorem q984 : (Jvm.Cond.instanceMethod ({ cls := "BreathTown$Reader", name := "within", desc := "(I)LBreathTown$Value;" } : Jvm.MethodName)) ∈ lw_all := lw_g (lw_at lw_m4 88 rfl) rfl
theorem q985 : (Jvm.Cond.code ({ cls := "BreathTown$Reader", name := "within", desc := "(I)LBreathTown$Value;" } : Jvm.MethodName) prog_14_method_24_code (4 : Nat) (Option.some (Jvm.ClassFile.FieldType.object "BreathTown$Value"))) ∈ lw_all := lw_g (lw_at lw_m4 89 rfl) rfl
theorem q986 : (Jvm.Cond.methodLink "BreathTown$Reader" (224 : Nat) ({ cls := "BreathTown$Reader", name := "opens", desc := "(I)V" } : Jvm.MethodName)) ∈ lw_all := lw_g (lw_at lw_m4 90 rfl) rfl
theorem q987 : (Jvm.Cond.privateMethod ({ cls := "BreathTown$Reader", name := "opens", desc := "(I)V" } : Jvm.MethodName)) ∈ lw_tbl := lw_at lw_m4 91 rfl
theorem q988 : (Jvm.Cond.instanceMethod ({ cls := "BreathTown$Reader", name := "opens", desc := "(I)V" } : Jvm.MethodName)) ∈ lw_all := lw_g (lw_at lw_m4 92 rfl) rfl
theorem q989 : (Jvm.Cond.code ({ cls := "BreathTown$Reader", name := "opens", desc := "(I)V" } : Jvm.MethodName) prog_14_method_23_code (2 : Nat) (Option.none : Option Jvm.ClassFile.FieldType)) ∈ lw_all := lw_g (lw_at lw_m4 93 rfl) rfl
theorem q990 : (Jvm.Cond.methodLink "BreathTown$Reader" (146 : Nat) ({ cls := "BreathTown$Reader", name := "must", desc := "(I)V" } : Jvm.MethodName)) ∈ lw_all := lw_g (lw_at lw_m4 94 rfl) rfl
theorem q991 : (Jvm.Cond.privateMethod ({ cls := "BreathTown$Reader", name := "must", desc := "(I)V" } : Jvm.MethodName)) ∈ lw_tbl := lw_at lw_m4 95 rfl
theorem q992 : (Jvm.Cond.instanceMethod ({ cls := "BreathTown$Reader", name := "must", desc := "(I)V" } : Jvm.MethodName)) ∈ lw_all := lw_g (lw_at lw_m4 96 rfl) rfl
theorem q993 : (Jvm.Cond.code ({ cls := "BreathTown$Reader", name := "must", desc := "(I)V" } : Jvm.MethodName) prog_14_method_5_code (2 : Nat) (Option.none : Option Jvm.ClassFile.FieldType)) ∈ lw_all := lw_g (lw_at lw_m4 97 rfl) rfl
theorem q994 : (Jvm.Cond.classLink "BreathTown$Reader" (227 : Nat) "BreathTown$Pair") ∈ lw_all := lw_g (lw_at lw_m4 98 rfl) rfl
theorem q996 : (Jvm.Cond.methodLink "BreathTown$Reader" (229 : Nat) ({ cls := "BreathTown$Pair", name := "<init>", desc := "(ZLBreathTown$Value;LBreathTown$Value;)V" } : Jvm.MethodName)) ∈ lw_all := lw_g (lw_at lw_m4 100 rfl) rfl
theorem q1010 : (Jvm.Cond.classLink "BreathTown$Reader" (236 : Nat) "BreathTown$Fixed") ∈ lw_all := lw_g (lw_at lw_m4 114 rfl) rfl
theorem q1012 : (Jvm.Cond.methodLink "BreathTown$Reader" (238 : Nat) ({ cls := "BreathTown$Fixed", name := "<init>", desc := "(J)V" } : Jvm.MethodName)) ∈ lw_all := lw_g (lw_at lw_m4 116 rfl) rfl
theorem q1020 : (Jvm.Cond.fieldLinkNest "BreathTown$Reader" (241 : Nat) "BreathTown" "ASKED" "[Ljava/lang/String;" "BreathTown") ∈ lw_tbl := lw_at lw_m4 124 rfl
theorem q1022 : (Jvm.Cond.classLink "BreathTown$Reader" (244 : Nat) "BreathTown$Asked") ∈ lw_all := lw_g (lw_at lw_m4 126 rfl) rfl
theorem q1024 : (Jvm.Cond.methodLink "BreathTown$Reader" (246 : Nat) ({ cls := "BreathTown$Asked", name := "<init>", desc := "(I)V" } : Jvm.MethodName)) ∈ lw_all := lw_g (lw_at lw_m4 128 rfl) rfl
theorem q1032 : (Jvm.Cond.fieldLinkNest "BreathTown$Reader" (248 : Nat) "BreathTown" "LOOKED" "[Ljava/lang/String;" "BreathTown") ∈ lw_tbl := lw_at lw_m4 136 rfl
theorem q1034 : (Jvm.Cond.methodLink "BreathTown$Reader" (251 : Nat) ({ cls := "BreathTown$Reader", name := "looked", desc := "(I)LBreathTown$Value;" } : Jvm.MethodName)) ∈ lw_all := lw_g (lw_at lw_m4 138 rfl) rfl
theorem q1035 : (Jvm.Cond.privateMethod ({ cls := "BreathTown$Reader", name := "looked", desc := "(I)LBreathTown$Value;" } : Jvm.MethodName)) ∈ lw_tbl := lw_at lw_m4 139 rfl
theorem q1036 : (Jvm.Cond.instanceMethod ({ cls := "BreathTown$Reader", name := "looked", desc := "(I)LBreathTown$Value;" } : Jvm.MethodName)) ∈ lw_all := lw_g (lw_at lw_m4 140 rfl) rfl
theorem q1037 : (Jvm.Cond.code ({ cls := "BreathTown$Reader", name := "looked", desc := "(I)LBreathTown$Value;" } : Jvm.MethodName) prog_14_method_29_code (3 : Nat) (Option.some (Jvm.ClassFile.FieldType.object "BreathTown$Value"))) ∈ lw_all := lw_g (lw_at lw_m4 141 rfl) rfl
theorem q1038 : (Jvm.Cond.classLink "BreathTown$Reader" (301 : Nat) "BreathTown$Looked") ∈ lw_all := lw_g (lw_at lw_m4 142 rfl) rfl
theorem q1040 : (Jvm.Cond.methodLink "BreathTown$Reader" (303 : Nat) ({ cls := "BreathTown$Looked", name := "<init>", desc := "(LBreathTown;ILBreathTown$Value;)V" } : Jvm.MethodName)) ∈ lw_all := lw_g (lw_at lw_m4 144 rfl) rfl
theorem q1054 : (Jvm.Cond.stringRef "BreathTown$Reader" (254 : Nat) "min") ∈ lw_tbl := lw_at lw_m4 158 rfl
theorem q1055 : (Jvm.Cond.stringRef "BreathTown$Reader" (256 : Nat) "max") ∈ lw_tbl := lw_at lw_m4 159 rfl
theorem q1056 : (Jvm.Cond.methodLink "BreathTown$Reader" (216 : Nat) ({ cls := "BreathTown$Chain", name := "add", desc := "(CLBreathTown$Value;)V" } : Jvm.MethodName)) ∈ lw_all := lw_g (lw_at lw_m4 160 rfl) rfl
theorem q1117 : (Jvm.Cond.methodLink "BreathTown$Reader" (219 : Nat) ({ cls := "BreathTown$Reader", name := "takes", desc := "(I)Z" } : Jvm.MethodName)) ∈ lw_all := lw_g (lw_at lw_m4 221 rfl) rfl
theorem q1118 : (Jvm.Cond.privateMethod ({ cls := "BreathTown$Reader", name := "takes", desc := "(I)Z" } : Jvm.MethodName)) ∈ lw_tbl := lw_at lw_m4 222 rfl
theorem q1119 : (Jvm.Cond.instanceMethod ({ cls := "BreathTown$Reader", name := "takes", desc := "(I)Z" } : Jvm.MethodName)) ∈ lw_all := lw_g (lw_at lw_m4 223 rfl) rfl
theorem q1120 : (Jvm.Cond.code ({ cls := "BreathTown$Reader", name := "takes", desc := "(I)Z" } : Jvm.MethodName) prog_14_method_20_code (3 : Nat) (Option.some Jvm.ClassFile.FieldType.boolean)) ∈ lw_all := lw_g (lw_at lw_m4 224 rfl) rfl
theorem q1121 : (Jvm.Cond.methodLink "BreathTown$Reader" (207 : Nat) ({ cls := "BreathTown$Street", name := "<init>", desc := "(Ljava/lang/String;IIIIILBreathTown$Value;)V" } : Jvm.MethodName)) ∈ lw_all := lw_g (lw_at lw_m4 225 rfl) rfl
theorem q1151 : (Jvm.Cond.stringRef "BreathTown$Reader" (174 : Nat) "broad") ∈ lw_tbl := lw_at lw_m5 15 rfl
theorem q1152 : (Jvm.Cond.stringRef "BreathTown$Reader" (179 : Nat) "at") ∈ lw_tbl := lw_at lw_m5 16 rfl
theorem q1153 : (Jvm.Cond.classLink "BreathTown$Reader" (180 : Nat) "BreathTown$Walker") ∈ lw_all := lw_g (lw_at lw_m5 17 rfl) rfl
theorem q1155 : (Jvm.Cond.methodLink "BreathTown$Reader" (187 : Nat) ({ cls := "BreathTown$Walker", name := "<init>", desc := "(Ljava/lang/String;III)V" } : Jvm.MethodName)) ∈ lw_all := lw_g (lw_at lw_m5 19 rfl) rfl
theorem q1549 : (Jvm.Cond.instanceMethod ({ cls := "BreathTown$Reader", name := "question", desc := "(I)LBreathTown$Question;" } : Jvm.MethodName)) ∈ lw_all := lw_g (lw_at lw_m6 173 rfl) rfl
theorem q1550 : (Jvm.Cond.selects "BreathTown$Reader" ({ cls := "BreathTown$Reader", name := "question", desc := "(I)LBreathTown$Question;" } : Jvm.MethodName) ({ cls := "BreathTown$Reader", name := "question", desc := "(I)LBreathTown$Question;" } : Jvm.MethodName)) ∈ lw_all := lw_g (lw_at lw_m6 174 rfl) rfl
theorem q1551 : (Jvm.Cond.code ({ cls := "BreathTown$Reader", name := "question", desc := "(I)LBreathTown$Question;" } : Jvm.MethodName) prog_14_method_30_code (4 : Nat) (Option.some (Jvm.ClassFile.FieldType.object "BreathTown$Question"))) ∈ lw_all := lw_g (lw_at lw_m6 175 rfl) rfl
theorem q1552 : (Jvm.Cond.fieldLinkNest "BreathTown$Reader" (306 : Nat) "BreathTown" "TOLD_OF" "[Ljava/lang/String;" "BreathTown") ∈ lw_tbl := lw_at lw_m6 176 rfl
theorem q1554 : (Jvm.Cond.classLink "BreathTown$Reader" (309 : Nat) "BreathTown$Question") ∈ lw_all := lw_g (lw_at lw_m6 178 rfl) rfl
theorem q1556 : (Jvm.Cond.methodLink "BreathTown$Reader" (281 : Nat) ({ cls := "BreathTown$Reader", name := "test", desc := "()LBreathTown$Test;" } : Jvm.MethodName)) ∈ lw_all := lw_g (lw_at lw_m6 180 rfl) rfl
theorem q1557 : (Jvm.Cond.privateMethod ({ cls := "BreathTown$Reader", name := "test", desc := "()LBreathTown$Test;" } : Jvm.MethodName)) ∈ lw_tbl := lw_at lw_m6 181 rfl
theorem q1558 : (Jvm.Cond.instanceMethod ({ cls := "BreathTown$Reader", name := "test", desc := "()LBreathTown$Test;" } : Jvm.MethodName)) ∈ lw_all := lw_g (lw_at lw_m6 182 rfl) rfl
theorem q1559 : (Jvm.Cond.code ({ cls := "BreathTown$Reader", name := "test", desc := "()LBreathTown$Test;" } : Jvm.MethodName) prog_14_method_26_code (2 : Nat) (Option.some (Jvm.ClassFile.FieldType.object "BreathTown$Test"))) ∈ lw_all := lw_g (lw_at lw_m6 183 rfl) rfl
theorem q1560 : (Jvm.Cond.classLink "BreathTown$Reader" (258 : Nat) "BreathTown$Facts") ∈ lw_all := lw_g (lw_at lw_m6 184 rfl) rfl
theorem q1562 : (Jvm.Cond.methodLink "BreathTown$Reader" (260 : Nat) ({ cls := "BreathTown$Facts", name := "<init>", desc := "(Z)V" } : Jvm.MethodName)) ∈ lw_all := lw_g (lw_at lw_m6 186 rfl) rfl
theorem q1572 : (Jvm.Cond.fieldLinkNest "BreathTown$Reader" (263 : Nat) "BreathTown$Facts" "tests" "Ljava/util/List;" "BreathTown") ∈ lw_tbl := lw_at lw_m6 196 rfl
theorem q1579 : (Jvm.Cond.methodLink "BreathTown$Reader" (266 : Nat) ({ cls := "BreathTown$Reader", name := "both", desc := "()LBreathTown$Test;" } : Jvm.MethodName)) ∈ lw_all := lw_g (lw_at lw_m6 203 rfl) rfl
theorem q1580 : (Jvm.Cond.privateMethod ({ cls := "BreathTown$Reader", name := "both", desc := "()LBreathTown$Test;" } : Jvm.MethodName)) ∈ lw_tbl := lw_at lw_m6 204 rfl
theorem q1581 : (Jvm.Cond.instanceMethod ({ cls := "BreathTown$Reader", name := "both", desc := "()LBreathTown$Test;" } : Jvm.MethodName)) ∈ lw_all := lw_g (lw_at lw_m6 205 rfl) rfl
theorem q1582 : (Jvm.Cond.code ({ cls := "BreathTown$Reader", name := "both", desc := "()LBreathTown$Test;" } : Jvm.MethodName) prog_14_method_27_code (2 : Nat) (Option.some (Jvm.ClassFile.FieldType.object "BreathTown$Test"))) ∈ lw_all := lw_g (lw_at lw_m6 206 rfl) rfl
theorem q1583 : (Jvm.Cond.methodLink "BreathTown$Reader" (276 : Nat) ({ cls := "BreathTown$Reader", name := "fact", desc := "()LBreathTown$Test;" } : Jvm.MethodName)) ∈ lw_all := lw_g (lw_at lw_m6 207 rfl) rfl
theorem q1584 : (Jvm.Cond.privateMethod ({ cls := "BreathTown$Reader", name := "fact", desc := "()LBreathTown$Test;" } : Jvm.MethodName)) ∈ lw_tbl := lw_at lw_m6 208 rfl
theorem q1585 : (Jvm.Cond.instanceMethod ({ cls := "BreathTown$Reader", name := "fact", desc := "()LBreathTown$Test;" } : Jvm.MethodName)) ∈ lw_all := lw_g (lw_at lw_m6 209 rfl) rfl
theorem q1586 : (Jvm.Cond.code ({ cls := "BreathTown$Reader", name := "fact", desc := "()LBreathTown$Test;" } : Jvm.MethodName) prog_14_method_28_code (3 : Nat) (Option.some (Jvm.ClassFile.FieldType.object "BreathTown$Test"))) ∈ lw_all := lw_g (lw_at lw_m6 210 rfl) rfl
theorem q1587 : (Jvm.Cond.stringRef "BreathTown$Reader" (284 : Nat) "not") ∈ lw_tbl := lw_at lw_m6 211 rfl
theorem q1588 : (Jvm.Cond.methodLink "BreathTown$Reader" (272 : Nat) ({ cls := "BreathTown$Reader", name := "passes", desc := "(Ljava/lang/String;)Z" } : Jvm.MethodName)) ∈ lw_all := lw_g (lw_at lw_m6 212 rfl) rfl
theorem q1589 : (Jvm.Cond.privateMethod ({ cls := "BreathTown$Reader", name := "passes", desc := "(Ljava/lang/String;)Z" } : Jvm.MethodName)) ∈ lw_tbl := lw_at lw_m6 213 rfl
theorem q1590 : (Jvm.Cond.instanceMethod ({ cls := "BreathTown$Reader", name := "passes", desc := "(Ljava/lang/String;)Z" } : Jvm.MethodName)) ∈ lw_all := lw_g (lw_at lw_m6 214 rfl) rfl
theorem q1591 : (Jvm.Cond.code ({ cls := "BreathTown$Reader", name := "passes", desc := "(Ljava/lang/String;)Z" } : Jvm.MethodName) prog_14_method_9_code (3 : Nat) (Option.some Jvm.ClassFile.FieldType.boolean)) ∈ lw_all := lw_g (lw_at lw_m6 215 rfl) rfl
theorem q1592 : (Jvm.Cond.classLink "BreathTown$Reader" (286 : Nat) "BreathTown$Not") ∈ lw_all := lw_g (lw_at lw_m6 216 rfl) rfl
theorem q1594 : (Jvm.Cond.methodLink "BreathTown$Reader" (288 : Nat) ({ cls := "BreathTown$Not", name := "<init>", desc := "(LBreathTown$Test;)V" } : Jvm.MethodName)) ∈ lw_all := lw_g (lw_at lw_m6 218 rfl) rfl
theorem q1602 : (Jvm.Cond.stringRef "BreathTown$Reader" (291 : Nat) "all") ∈ lw_tbl := lw_at lw_m6 226 rfl
theorem q1603 : (Jvm.Cond.classLink "BreathTown$Reader" (293 : Nat) "BreathTown$All") ∈ lw_all := lw_g (lw_at lw_m6 227 rfl) rfl
theorem q1605 : (Jvm.Cond.methodLinkNest "BreathTown$Reader" (295 : Nat) ({ cls := "BreathTown$All", name := "<init>", desc := "()V" } : Jvm.MethodName) "BreathTown") ∈ lw_tbl := lw_at lw_m6 229 rfl
theorem q1610 : (Jvm.Cond.classLink "BreathTown$Reader" (296 : Nat) "BreathTown$Than") ∈ lw_all := lw_g (lw_at lw_m6 234 rfl) rfl
theorem q1612 : (Jvm.Cond.methodLink "BreathTown$Reader" (298 : Nat) ({ cls := "BreathTown$Than", name := "<init>", desc := "(LBreathTown$Value;ILBreathTown$Value;)V" } : Jvm.MethodName)) ∈ lw_all := lw_g (lw_at lw_m6 236 rfl) rfl
theorem q1626 : (Jvm.Cond.stringRef "BreathTown$Reader" (279 : Nat) "and") ∈ lw_tbl := lw_at lw_m7 10 rfl
theorem q1627 : (Jvm.Cond.stringRef "BreathTown$Reader" (270 : Nat) "or") ∈ lw_tbl := lw_at lw_m7 11 rfl
theorem q1628 : (Jvm.Cond.methodLink "BreathTown$Reader" (311 : Nat) ({ cls := "BreathTown$Question", name := "<init>", desc := "(ILBreathTown$Test;LBreathTown$Value;)V" } : Jvm.MethodName)) ∈ lw_all := lw_g (lw_at lw_m7 12 rfl) rfl
theorem q2659 : (Jvm.Cond.castable "BreathTown$Reader" "java/lang/Object") ∈ lw_tbl := lw_at lw_m11 83 rfl
theorem in_X2 : ∀ w ∈ wsX20, w ∈ lw_all := lw_in wsX20 [370, 372, 374, 376, 378, 380, 382, 384] (by decide +kernel) (by decide +kernel)
/-! BreathTown$Fault -/
set_option maxRecDepth 100000
def RX3 : String := "BreathTown$Fault"
def TX3 : u_T := fun k => match k with
  | 0 => ("java/lang/Throwable", "cause", "Ljava/lang/Throwable;", false)
  | 1 => ("java/lang/Throwable", "stackTrace", "[Ljava/lang/StackTraceElement;", false)
  | 2 => ("java/lang/Throwable", "suppressedExceptions", "Ljava/util/List;", false)
  | 3 => ("java/lang/Throwable", "detailMessage", "Ljava/lang/String;", false)
  | 4 => ("java/lang/Throwable", "backtrace", "Ljava/lang/Object;", false)
  | 5 => ("java/lang/Throwable", "depth", "I", false)
  | 6 => ("BreathTown$Fault", "kind", "I", false)
  | _ => ("BreathTown$Fault", "place", "I", false)
def tyX3 : Nat → FieldType := fun k => match k with
  | 0 => .object "java/lang/Throwable"
  | 1 => .array (.object "java/lang/StackTraceElement")
  | 2 => .object "java/util/List"
  | 3 => .object "java/lang/String"
  | 4 => .object "java/lang/Object"
  | 5 => .int
  | 6 => .int
  | _ => .int
abbrev wsX30 : List Cond := u_ws RX3 TX3 8
theorem nmX3 : ∀ a, a < 8 → ∀ b, b < 8 → a ≠ b → (TX3 a).2.1 ≠ (TX3 b).2.1 := by decide +kernel
theorem tyX3_ok : ∀ k, k < 8 → parseFieldDescriptor (TX3 k).2.2.1 = some (tyX3 k) := by decide +kernel
abbrev cX3_init : ByteArray := prog_6_method_1_code
def yX3_init : MethodName := ⟨RX3, "<init>", "()V"⟩
def dkwX3_init_0 : List UInt8 := [42, 1, 1, 3, 3, 183, 0, 1, 177]
abbrev dktX3_init_0 : List UInt8 := dkwX3_init_0 ++ []
theorem dksX3_init_0 : cX3_init.data.toList.drop 0 = dktX3_init_0 := by decide +kernel
theorem dX3_init_0 : decode cX3_init 0 = .ok (.aload_n 0, 1) := dk_42 (dk_at dksX3_init_0 0 rfl rfl)
theorem dX3_init_1 : decode cX3_init 1 = .ok (.aconst_null, 1) := dk_1 (dk_at dksX3_init_0 1 rfl rfl)
theorem dX3_init_2 : decode cX3_init 2 = .ok (.aconst_null, 1) := dk_1 (dk_at dksX3_init_0 2 rfl rfl)
theorem dX3_init_3 : decode cX3_init 3 = .ok (.iconst 0, 1) := dk_3 (dk_at dksX3_init_0 3 rfl rfl)
theorem dX3_init_4 : decode cX3_init 4 = .ok (.iconst 0, 1) := dk_3 (dk_at dksX3_init_0 4 rfl rfl)
theorem dX3_init_5 : decode cX3_init 5 = .ok (.invokespecial 1, 3) := dk_183 0 1 (dk_at dksX3_init_0 5 rfl rfl)
theorem dX3_init_8 : decode cX3_init 8 = .ok (.return_, 1) := dk_177 (dk_at dksX3_init_0 8 rfl rfl)
theorem q186 : (Jvm.Cond.initialized "BreathTown$Fault") ∈ lw_all := lw_g (lw_at lw_m1 10 rfl) rfl
theorem q290 : (Jvm.Cond.instantiable "BreathTown$Fault" (8 : Nat)) ∈ lw_all := lw_g (lw_at lw_m1 114 rfl) rfl
theorem q291 : (Jvm.Cond.castable "BreathTown$Fault" "BreathTown$Fault") ∈ lw_tbl := lw_at lw_m1 115 rfl
theorem q298 : (Jvm.Cond.selects "BreathTown$Fault" ({ cls := "java/lang/Throwable", name := "fillInStackTrace", desc := "(I)Ljava/lang/Throwable;" } : Jvm.MethodName) ({ cls := "java/lang/Throwable", name := "fillInStackTrace", desc := "(I)Ljava/lang/Throwable;" } : Jvm.MethodName)) ∈ lw_all := lw_g (lw_at lw_m1 122 rfl) rfl
theorem q299 : (Jvm.Cond.selects "BreathTown$Fault" ({ cls := "java/lang/Throwable", name := "fillInStackTrace", desc := "()Ljava/lang/Throwable;" } : Jvm.MethodName) ({ cls := "java/lang/Throwable", name := "fillInStackTrace", desc := "()Ljava/lang/Throwable;" } : Jvm.MethodName)) ∈ lw_all := lw_g (lw_at lw_m1 123 rfl) rfl
theorem q300 : (Jvm.Cond.lays "BreathTown$Fault" "java/lang/Throwable" "cause" "Ljava/lang/Throwable;") ∈ lw_all := lw_g (lw_at lw_m1 124 rfl) rfl
theorem q302 : (Jvm.Cond.lays "BreathTown$Fault" "java/lang/Throwable" "stackTrace" "[Ljava/lang/StackTraceElement;") ∈ lw_all := lw_g (lw_at lw_m1 126 rfl) rfl
theorem q304 : (Jvm.Cond.lays "BreathTown$Fault" "java/lang/Throwable" "suppressedExceptions" "Ljava/util/List;") ∈ lw_all := lw_g (lw_at lw_m1 128 rfl) rfl
theorem q306 : (Jvm.Cond.lays "BreathTown$Fault" "java/lang/Throwable" "detailMessage" "Ljava/lang/String;") ∈ lw_all := lw_g (lw_at lw_m1 130 rfl) rfl
theorem q308 : (Jvm.Cond.lays "BreathTown$Fault" "java/lang/Throwable" "backtrace" "Ljava/lang/Object;") ∈ lw_all := lw_g (lw_at lw_m1 132 rfl) rfl
theorem q329 : (Jvm.Cond.instanceMethod ({ cls := "BreathTown$Fault", name := "<init>", desc := "()V" } : Jvm.MethodName)) ∈ lw_all := lw_g (lw_at lw_m1 153 rfl) rfl
theorem q330 : (Jvm.Cond.code ({ cls := "BreathTown$Fault", name := "<init>", desc := "()V" } : Jvm.MethodName) prog_6_method_1_code (1 : Nat) (Option.none : Option Jvm.ClassFile.FieldType)) ∈ lw_all := lw_g (lw_at lw_m1 154 rfl) rfl
theorem q331 : (Jvm.Cond.methodLink "BreathTown$Fault" (1 : Nat) ({ cls := "java/lang/RuntimeException", name := "<init>", desc := "(Ljava/lang/String;Ljava/lang/Throwable;ZZ)V" } : Jvm.MethodName)) ∈ lw_all := lw_g (lw_at lw_m1 155 rfl) rfl
theorem q349 : (Jvm.Cond.lays "BreathTown$Fault" "BreathTown$Fault" "kind" "I") ∈ lw_all := lw_g (lw_at lw_m1 173 rfl) rfl
theorem q350 : (Jvm.Cond.soleField "BreathTown$Fault" "kind") ∈ lw_all := lw_g (lw_at lw_m1 174 rfl) rfl
theorem q351 : (Jvm.Cond.lays "BreathTown$Fault" "BreathTown$Fault" "place" "I") ∈ lw_all := lw_g (lw_at lw_m1 175 rfl) rfl
theorem q352 : (Jvm.Cond.soleField "BreathTown$Fault" "place") ∈ lw_all := lw_g (lw_at lw_m1 176 rfl) rfl
theorem q357 : (Jvm.Cond.lays "BreathTown$Fault" "java/lang/Throwable" "depth" "I") ∈ lw_all := lw_g (lw_at lw_m1 181 rfl) rfl
theorem q360 : (Jvm.Cond.superclass "BreathTown$Fault" "java/lang/RuntimeException") ∈ lw_all := lw_g (lw_at lw_m1 184 rfl) rfl
theorem q862 : (Jvm.Cond.selects "BreathTown$Fault" ({ cls := "java/lang/Object", name := "getClass", desc := "()Ljava/lang/Class;" } : Jvm.MethodName) ({ cls := "java/lang/Object", name := "getClass", desc := "()Ljava/lang/Class;" } : Jvm.MethodName)) ∈ lw_all := lw_g (lw_at lw_m3 206 rfl) rfl
theorem q2660 : (Jvm.Cond.castable "BreathTown$Fault" "java/lang/Object") ∈ lw_tbl := lw_at lw_m11 84 rfl
theorem in_X3 : ∀ w ∈ wsX30, w ∈ lw_all := lw_in wsX30 [300, 302, 304, 306, 308, 357, 349, 351] (by decide +kernel) (by decide +kernel)
/-! BreathTown$Moment -/
set_option maxRecDepth 100000
def RX4 : String := "BreathTown$Moment"
def TX4 : u_T := fun k => match k with
  | _ => ("BreathTown$Moment", "of", "[J", true)
def tyX4 : Nat → FieldType := fun k => match k with
  | _ => .array .long
abbrev wsX40 : List Cond := u_ws RX4 TX4 1
theorem nmX4 : ∀ a, a < 1 → ∀ b, b < 1 → a ≠ b → (TX4 a).2.1 ≠ (TX4 b).2.1 := by decide +kernel
theorem tyX4_ok : ∀ k, k < 1 → parseFieldDescriptor (TX4 k).2.2.1 = some (tyX4 k) := by decide +kernel
abbrev cX4_init : ByteArray := prog_9_method_1_code
def yX4_init : MethodName := ⟨RX4, "<init>", "()V"⟩
def dkwX4_init_0 : List UInt8 := [42, 183, 0, 1, 42, 8, 188, 11, 181, 0, 7, 177]
abbrev dktX4_init_0 : List UInt8 := dkwX4_init_0 ++ []
theorem dksX4_init_0 : cX4_init.data.toList.drop 0 = dktX4_init_0 := by decide +kernel
theorem dX4_init_0 : decode cX4_init 0 = .ok (.aload_n 0, 1) := dk_42 (dk_at dksX4_init_0 0 rfl rfl)
theorem dX4_init_1 : decode cX4_init 1 = .ok (.invokespecial 1, 3) := dk_183 0 1 (dk_at dksX4_init_0 1 rfl rfl)
theorem dX4_init_4 : decode cX4_init 4 = .ok (.aload_n 0, 1) := dk_42 (dk_at dksX4_init_0 4 rfl rfl)
theorem dX4_init_5 : decode cX4_init 5 = .ok (.iconst 5, 1) := dk_8 (dk_at dksX4_init_0 5 rfl rfl)
theorem dX4_init_6 : decode cX4_init 6 = .ok (.newarray .long, 2) := dk_188_11 (dk_at dksX4_init_0 6 rfl rfl)
theorem dX4_init_8 : decode cX4_init 8 = .ok (.putfield 7, 3) := dk_181 0 7 (dk_at dksX4_init_0 8 rfl rfl)
theorem dX4_init_11 : decode cX4_init 11 = .ok (.return_, 1) := dk_177 (dk_at dksX4_init_0 11 rfl rfl)
theorem q187 : (Jvm.Cond.initialized "BreathTown$Moment") ∈ lw_all := lw_g (lw_at lw_m1 11 rfl) rfl
theorem q388 : (Jvm.Cond.instantiable "BreathTown$Moment" (1 : Nat)) ∈ lw_all := lw_g (lw_at lw_m1 212 rfl) rfl
theorem q390 : (Jvm.Cond.instanceMethod ({ cls := "BreathTown$Moment", name := "<init>", desc := "()V" } : Jvm.MethodName)) ∈ lw_all := lw_g (lw_at lw_m1 214 rfl) rfl
theorem q391 : (Jvm.Cond.code ({ cls := "BreathTown$Moment", name := "<init>", desc := "()V" } : Jvm.MethodName) prog_9_method_1_code (1 : Nat) (Option.none : Option Jvm.ClassFile.FieldType)) ∈ lw_all := lw_g (lw_at lw_m1 215 rfl) rfl
theorem q392 : (Jvm.Cond.methodLink "BreathTown$Moment" (1 : Nat) ({ cls := "java/lang/Object", name := "<init>", desc := "()V" } : Jvm.MethodName)) ∈ lw_all := lw_g (lw_at lw_m1 216 rfl) rfl
theorem q393 : (Jvm.Cond.fieldLink "BreathTown$Moment" (7 : Nat) "BreathTown$Moment" "of" "[J") ∈ lw_all := lw_g (lw_at lw_m1 217 rfl) rfl
theorem q396 : (Jvm.Cond.laysFinal "BreathTown$Moment" "BreathTown$Moment" "of" "[J") ∈ lw_all := lw_g (lw_at lw_m1 220 rfl) rfl
theorem q397 : (Jvm.Cond.soleField "BreathTown$Moment" "of") ∈ lw_all := lw_g (lw_at lw_m1 221 rfl) rfl
theorem q398 : (Jvm.Cond.superclass "BreathTown$Moment" "java/lang/Object") ∈ lw_all := lw_g (lw_at lw_m1 222 rfl) rfl
theorem q865 : (Jvm.Cond.selects "BreathTown$Moment" ({ cls := "java/lang/Object", name := "getClass", desc := "()Ljava/lang/Class;" } : Jvm.MethodName) ({ cls := "java/lang/Object", name := "getClass", desc := "()Ljava/lang/Class;" } : Jvm.MethodName)) ∈ lw_all := lw_g (lw_at lw_m3 209 rfl) rfl
theorem q2661 : (Jvm.Cond.castable "BreathTown$Moment" "java/lang/Object") ∈ lw_tbl := lw_at lw_m11 85 rfl
theorem in_X4 : ∀ w ∈ wsX40, w ∈ lw_all := lw_in wsX40 [396] (by decide +kernel) (by decide +kernel)
/-! BreathTown$State -/
set_option maxRecDepth 100000
def RX5 : String := "BreathTown$State"
def TX5 : u_T := fun k => match k with
  | 0 => ("BreathTown$State", "hour", "I", false)
  | 1 => ("BreathTown$State", "shift", "[I", true)
  | 2 => ("BreathTown$State", "at", "[I", true)
  | 3 => ("BreathTown$State", "to", "[I", true)
  | 4 => ("BreathTown$State", "free", "[I", true)
  | _ => ("BreathTown$State", "this$0", "LBreathTown;", true)
def tyX5 : Nat → FieldType := fun k => match k with
  | 0 => .int
  | 1 => .array .int
  | 2 => .array .int
  | 3 => .array .int
  | 4 => .array .int
  | _ => .object "BreathTown"
abbrev wsX50 : List Cond := u_ws RX5 TX5 6
theorem nmX5 : ∀ a, a < 6 → ∀ b, b < 6 → a ≠ b → (TX5 a).2.1 ≠ (TX5 b).2.1 := by decide +kernel
theorem tyX5_ok : ∀ k, k < 6 → parseFieldDescriptor (TX5 k).2.2.1 = some (tyX5 k) := by decide +kernel
abbrev cX5_init : ByteArray := prog_15_method_1_code
def yX5_init : MethodName := ⟨RX5, "<init>", "(LBreathTown;)V"⟩
def dkwX5_init_1 : List UInt8 := [181, 0, 19, 42, 16, 6, 188, 10, 181, 0, 22, 42, 16, 6, 188, 10, 181, 0, 25, 177]
abbrev dktX5_init_1 : List UInt8 := dkwX5_init_1 ++ []
def dkwX5_init_0 : List UInt8 := [42, 43, 181, 0, 3, 42, 183, 0, 9, 42, 16, 12, 188, 10, 181, 0, 15, 42, 16, 6, 188, 10]
abbrev dktX5_init_0 : List UInt8 := dkwX5_init_0 ++ dktX5_init_1
theorem dksX5_init_0 : cX5_init.data.toList.drop 0 = dktX5_init_0 := by decide +kernel
theorem dksX5_init_1 : cX5_init.data.toList.drop 22 = dktX5_init_1 := dk_seg dksX5_init_0 22 rfl rfl
theorem dX5_init_0 : decode cX5_init 0 = .ok (.aload_n 0, 1) := dk_42 (dk_at dksX5_init_0 0 rfl rfl)
theorem dX5_init_1 : decode cX5_init 1 = .ok (.aload_n 1, 1) := dk_43 (dk_at dksX5_init_0 1 rfl rfl)
theorem dX5_init_2 : decode cX5_init 2 = .ok (.putfield 3, 3) := dk_181 0 3 (dk_at dksX5_init_0 2 rfl rfl)
theorem dX5_init_5 : decode cX5_init 5 = .ok (.aload_n 0, 1) := dk_42 (dk_at dksX5_init_0 5 rfl rfl)
theorem dX5_init_6 : decode cX5_init 6 = .ok (.invokespecial 9, 3) := dk_183 0 9 (dk_at dksX5_init_0 6 rfl rfl)
theorem dX5_init_9 : decode cX5_init 9 = .ok (.aload_n 0, 1) := dk_42 (dk_at dksX5_init_0 9 rfl rfl)
theorem dX5_init_10 : decode cX5_init 10 = .ok (.bipush 12, 2) := dk_16 12 (dk_at dksX5_init_0 10 rfl rfl)
theorem dX5_init_12 : decode cX5_init 12 = .ok (.newarray .int, 2) := dk_188_10 (dk_at dksX5_init_0 12 rfl rfl)
theorem dX5_init_14 : decode cX5_init 14 = .ok (.putfield 15, 3) := dk_181 0 15 (dk_at dksX5_init_0 14 rfl rfl)
theorem dX5_init_17 : decode cX5_init 17 = .ok (.aload_n 0, 1) := dk_42 (dk_at dksX5_init_0 17 rfl rfl)
theorem dX5_init_18 : decode cX5_init 18 = .ok (.bipush 6, 2) := dk_16 6 (dk_at dksX5_init_0 18 rfl rfl)
theorem dX5_init_20 : decode cX5_init 20 = .ok (.newarray .int, 2) := dk_188_10 (dk_at dksX5_init_0 20 rfl rfl)
theorem dX5_init_22 : decode cX5_init 22 = .ok (.putfield 19, 3) := dk_181 0 19 (dk_at dksX5_init_1 0 rfl rfl)
theorem dX5_init_25 : decode cX5_init 25 = .ok (.aload_n 0, 1) := dk_42 (dk_at dksX5_init_1 3 rfl rfl)
theorem dX5_init_26 : decode cX5_init 26 = .ok (.bipush 6, 2) := dk_16 6 (dk_at dksX5_init_1 4 rfl rfl)
theorem dX5_init_28 : decode cX5_init 28 = .ok (.newarray .int, 2) := dk_188_10 (dk_at dksX5_init_1 6 rfl rfl)
theorem dX5_init_30 : decode cX5_init 30 = .ok (.putfield 22, 3) := dk_181 0 22 (dk_at dksX5_init_1 8 rfl rfl)
theorem dX5_init_33 : decode cX5_init 33 = .ok (.aload_n 0, 1) := dk_42 (dk_at dksX5_init_1 11 rfl rfl)
theorem dX5_init_34 : decode cX5_init 34 = .ok (.bipush 6, 2) := dk_16 6 (dk_at dksX5_init_1 12 rfl rfl)
theorem dX5_init_36 : decode cX5_init 36 = .ok (.newarray .int, 2) := dk_188_10 (dk_at dksX5_init_1 14 rfl rfl)
theorem dX5_init_38 : decode cX5_init 38 = .ok (.putfield 25, 3) := dk_181 0 25 (dk_at dksX5_init_1 16 rfl rfl)
theorem dX5_init_41 : decode cX5_init 41 = .ok (.return_, 1) := dk_177 (dk_at dksX5_init_1 19 rfl rfl)
abbrev cX5_begins : ByteArray := prog_15_method_2_code
def yX5_begins : MethodName := ⟨RX5, "begins", "()V"⟩
def dkwX5_begins_5 : List UInt8 := [177]
abbrev dktX5_begins_5 : List UInt8 := dkwX5_begins_5 ++ []
def dkwX5_begins_4 : List UInt8 := [180, 0, 28, 27, 182, 0, 56, 180, 0, 64, 79, 42, 180, 0, 25, 27, 3, 79, 132, 1, 1, 167, 255, 195]
abbrev dktX5_begins_4 : List UInt8 := dkwX5_begins_4 ++ dktX5_begins_5
def dkwX5_begins_3 : List UInt8 := [42, 180, 0, 3, 180, 0, 28, 27, 182, 0, 56, 180, 0, 60, 79, 42, 180, 0, 22, 27, 42, 180, 0, 3]
abbrev dktX5_begins_3 : List UInt8 := dkwX5_begins_3 ++ dktX5_begins_4
def dkwX5_begins_2 : List UInt8 := [132, 1, 1, 167, 255, 222, 3, 60, 27, 42, 180, 0, 3, 182, 0, 53, 162, 0, 56, 42, 180, 0, 19, 27]
abbrev dktX5_begins_2 : List UInt8 := dkwX5_begins_2 ++ dktX5_begins_3
def dkwX5_begins_1 : List UInt8 := [162, 0, 29, 42, 180, 0, 15, 27, 42, 180, 0, 3, 180, 0, 28, 27, 182, 0, 45, 180, 0, 49, 79]
abbrev dktX5_begins_1 : List UInt8 := dkwX5_begins_1 ++ dktX5_begins_2
def dkwX5_begins_0 : List UInt8 := [42, 42, 180, 0, 3, 180, 0, 28, 180, 0, 32, 181, 0, 38, 3, 60, 27, 42, 180, 0, 3, 182, 0, 41]
abbrev dktX5_begins_0 : List UInt8 := dkwX5_begins_0 ++ dktX5_begins_1
theorem dksX5_begins_0 : cX5_begins.data.toList.drop 0 = dktX5_begins_0 := by decide +kernel
theorem dksX5_begins_1 : cX5_begins.data.toList.drop 24 = dktX5_begins_1 := dk_seg dksX5_begins_0 24 rfl rfl
theorem dksX5_begins_2 : cX5_begins.data.toList.drop 47 = dktX5_begins_2 := dk_seg dksX5_begins_1 23 rfl rfl
theorem dksX5_begins_3 : cX5_begins.data.toList.drop 71 = dktX5_begins_3 := dk_seg dksX5_begins_2 24 rfl rfl
theorem dksX5_begins_4 : cX5_begins.data.toList.drop 95 = dktX5_begins_4 := dk_seg dksX5_begins_3 24 rfl rfl
theorem dksX5_begins_5 : cX5_begins.data.toList.drop 119 = dktX5_begins_5 := dk_seg dksX5_begins_4 24 rfl rfl
theorem dX5_begins_0 : decode cX5_begins 0 = .ok (.aload_n 0, 1) := dk_42 (dk_at dksX5_begins_0 0 rfl rfl)
theorem dX5_begins_1 : decode cX5_begins 1 = .ok (.aload_n 0, 1) := dk_42 (dk_at dksX5_begins_0 1 rfl rfl)
theorem dX5_begins_2 : decode cX5_begins 2 = .ok (.getfield 3, 3) := dk_180 0 3 (dk_at dksX5_begins_0 2 rfl rfl)
theorem dX5_begins_5 : decode cX5_begins 5 = .ok (.getfield 28, 3) := dk_180 0 28 (dk_at dksX5_begins_0 5 rfl rfl)
theorem dX5_begins_8 : decode cX5_begins 8 = .ok (.getfield 32, 3) := dk_180 0 32 (dk_at dksX5_begins_0 8 rfl rfl)
theorem dX5_begins_11 : decode cX5_begins 11 = .ok (.putfield 38, 3) := dk_181 0 38 (dk_at dksX5_begins_0 11 rfl rfl)
theorem dX5_begins_14 : decode cX5_begins 14 = .ok (.iconst 0, 1) := dk_3 (dk_at dksX5_begins_0 14 rfl rfl)
theorem dX5_begins_15 : decode cX5_begins 15 = .ok (.istore_n 1, 1) := dk_60 (dk_at dksX5_begins_0 15 rfl rfl)
theorem dX5_begins_16 : decode cX5_begins 16 = .ok (.iload_n 1, 1) := dk_27 (dk_at dksX5_begins_0 16 rfl rfl)
theorem dX5_begins_17 : decode cX5_begins 17 = .ok (.aload_n 0, 1) := dk_42 (dk_at dksX5_begins_0 17 rfl rfl)
theorem dX5_begins_18 : decode cX5_begins 18 = .ok (.getfield 3, 3) := dk_180 0 3 (dk_at dksX5_begins_0 18 rfl rfl)
theorem dX5_begins_21 : decode cX5_begins 21 = .ok (.invokevirtual 41, 3) := dk_182 0 41 (dk_at dksX5_begins_0 21 rfl rfl)
theorem dX5_begins_24 : decode cX5_begins 24 = .ok (.if_icmp .ge 29, 3) := dk_162 0 29 (dk_at dksX5_begins_1 0 rfl rfl)
theorem dX5_begins_27 : decode cX5_begins 27 = .ok (.aload_n 0, 1) := dk_42 (dk_at dksX5_begins_1 3 rfl rfl)
theorem dX5_begins_28 : decode cX5_begins 28 = .ok (.getfield 15, 3) := dk_180 0 15 (dk_at dksX5_begins_1 4 rfl rfl)
theorem dX5_begins_31 : decode cX5_begins 31 = .ok (.iload_n 1, 1) := dk_27 (dk_at dksX5_begins_1 7 rfl rfl)
theorem dX5_begins_32 : decode cX5_begins 32 = .ok (.aload_n 0, 1) := dk_42 (dk_at dksX5_begins_1 8 rfl rfl)
theorem dX5_begins_33 : decode cX5_begins 33 = .ok (.getfield 3, 3) := dk_180 0 3 (dk_at dksX5_begins_1 9 rfl rfl)
theorem dX5_begins_36 : decode cX5_begins 36 = .ok (.getfield 28, 3) := dk_180 0 28 (dk_at dksX5_begins_1 12 rfl rfl)
theorem dX5_begins_39 : decode cX5_begins 39 = .ok (.iload_n 1, 1) := dk_27 (dk_at dksX5_begins_1 15 rfl rfl)
theorem dX5_begins_40 : decode cX5_begins 40 = .ok (.invokevirtual 45, 3) := dk_182 0 45 (dk_at dksX5_begins_1 16 rfl rfl)
theorem dX5_begins_43 : decode cX5_begins 43 = .ok (.getfield 49, 3) := dk_180 0 49 (dk_at dksX5_begins_1 19 rfl rfl)
theorem dX5_begins_46 : decode cX5_begins 46 = .ok (.iastore, 1) := dk_79 (dk_at dksX5_begins_1 22 rfl rfl)
theorem dX5_begins_47 : decode cX5_begins 47 = .ok (.iinc 1 1, 3) := dk_132 1 1 (dk_at dksX5_begins_2 0 rfl rfl)
theorem dX5_begins_50 : decode cX5_begins 50 = .ok (.goto (-34), 3) := dk_167 255 222 (dk_at dksX5_begins_2 3 rfl rfl)
theorem dX5_begins_53 : decode cX5_begins 53 = .ok (.iconst 0, 1) := dk_3 (dk_at dksX5_begins_2 6 rfl rfl)
theorem dX5_begins_54 : decode cX5_begins 54 = .ok (.istore_n 1, 1) := dk_60 (dk_at dksX5_begins_2 7 rfl rfl)
theorem dX5_begins_55 : decode cX5_begins 55 = .ok (.iload_n 1, 1) := dk_27 (dk_at dksX5_begins_2 8 rfl rfl)
theorem dX5_begins_56 : decode cX5_begins 56 = .ok (.aload_n 0, 1) := dk_42 (dk_at dksX5_begins_2 9 rfl rfl)
theorem dX5_begins_57 : decode cX5_begins 57 = .ok (.getfield 3, 3) := dk_180 0 3 (dk_at dksX5_begins_2 10 rfl rfl)
theorem dX5_begins_60 : decode cX5_begins 60 = .ok (.invokevirtual 53, 3) := dk_182 0 53 (dk_at dksX5_begins_2 13 rfl rfl)
theorem dX5_begins_63 : decode cX5_begins 63 = .ok (.if_icmp .ge 56, 3) := dk_162 0 56 (dk_at dksX5_begins_2 16 rfl rfl)
theorem dX5_begins_66 : decode cX5_begins 66 = .ok (.aload_n 0, 1) := dk_42 (dk_at dksX5_begins_2 19 rfl rfl)
theorem dX5_begins_67 : decode cX5_begins 67 = .ok (.getfield 19, 3) := dk_180 0 19 (dk_at dksX5_begins_2 20 rfl rfl)
theorem dX5_begins_70 : decode cX5_begins 70 = .ok (.iload_n 1, 1) := dk_27 (dk_at dksX5_begins_2 23 rfl rfl)
theorem dX5_begins_71 : decode cX5_begins 71 = .ok (.aload_n 0, 1) := dk_42 (dk_at dksX5_begins_3 0 rfl rfl)
theorem dX5_begins_72 : decode cX5_begins 72 = .ok (.getfield 3, 3) := dk_180 0 3 (dk_at dksX5_begins_3 1 rfl rfl)
theorem dX5_begins_75 : decode cX5_begins 75 = .ok (.getfield 28, 3) := dk_180 0 28 (dk_at dksX5_begins_3 4 rfl rfl)
theorem dX5_begins_78 : decode cX5_begins 78 = .ok (.iload_n 1, 1) := dk_27 (dk_at dksX5_begins_3 7 rfl rfl)
theorem dX5_begins_79 : decode cX5_begins 79 = .ok (.invokevirtual 56, 3) := dk_182 0 56 (dk_at dksX5_begins_3 8 rfl rfl)
theorem dX5_begins_82 : decode cX5_begins 82 = .ok (.getfield 60, 3) := dk_180 0 60 (dk_at dksX5_begins_3 11 rfl rfl)
theorem dX5_begins_85 : decode cX5_begins 85 = .ok (.iastore, 1) := dk_79 (dk_at dksX5_begins_3 14 rfl rfl)
theorem dX5_begins_86 : decode cX5_begins 86 = .ok (.aload_n 0, 1) := dk_42 (dk_at dksX5_begins_3 15 rfl rfl)
theorem dX5_begins_87 : decode cX5_begins 87 = .ok (.getfield 22, 3) := dk_180 0 22 (dk_at dksX5_begins_3 16 rfl rfl)
theorem dX5_begins_90 : decode cX5_begins 90 = .ok (.iload_n 1, 1) := dk_27 (dk_at dksX5_begins_3 19 rfl rfl)
theorem dX5_begins_91 : decode cX5_begins 91 = .ok (.aload_n 0, 1) := dk_42 (dk_at dksX5_begins_3 20 rfl rfl)
theorem dX5_begins_92 : decode cX5_begins 92 = .ok (.getfield 3, 3) := dk_180 0 3 (dk_at dksX5_begins_3 21 rfl rfl)
theorem dX5_begins_95 : decode cX5_begins 95 = .ok (.getfield 28, 3) := dk_180 0 28 (dk_at dksX5_begins_4 0 rfl rfl)
theorem dX5_begins_98 : decode cX5_begins 98 = .ok (.iload_n 1, 1) := dk_27 (dk_at dksX5_begins_4 3 rfl rfl)
theorem dX5_begins_99 : decode cX5_begins 99 = .ok (.invokevirtual 56, 3) := dk_182 0 56 (dk_at dksX5_begins_4 4 rfl rfl)
theorem dX5_begins_102 : decode cX5_begins 102 = .ok (.getfield 64, 3) := dk_180 0 64 (dk_at dksX5_begins_4 7 rfl rfl)
theorem dX5_begins_105 : decode cX5_begins 105 = .ok (.iastore, 1) := dk_79 (dk_at dksX5_begins_4 10 rfl rfl)
theorem dX5_begins_106 : decode cX5_begins 106 = .ok (.aload_n 0, 1) := dk_42 (dk_at dksX5_begins_4 11 rfl rfl)
theorem dX5_begins_107 : decode cX5_begins 107 = .ok (.getfield 25, 3) := dk_180 0 25 (dk_at dksX5_begins_4 12 rfl rfl)
theorem dX5_begins_110 : decode cX5_begins 110 = .ok (.iload_n 1, 1) := dk_27 (dk_at dksX5_begins_4 15 rfl rfl)
theorem dX5_begins_111 : decode cX5_begins 111 = .ok (.iconst 0, 1) := dk_3 (dk_at dksX5_begins_4 16 rfl rfl)
theorem dX5_begins_112 : decode cX5_begins 112 = .ok (.iastore, 1) := dk_79 (dk_at dksX5_begins_4 17 rfl rfl)
theorem dX5_begins_113 : decode cX5_begins 113 = .ok (.iinc 1 1, 3) := dk_132 1 1 (dk_at dksX5_begins_4 18 rfl rfl)
theorem dX5_begins_116 : decode cX5_begins 116 = .ok (.goto (-61), 3) := dk_167 255 195 (dk_at dksX5_begins_4 21 rfl rfl)
theorem dX5_begins_119 : decode cX5_begins 119 = .ok (.return_, 1) := dk_177 (dk_at dksX5_begins_5 0 rfl rfl)
abbrev cX5_copy : ByteArray := prog_15_method_3_code
def yX5_copy : MethodName := ⟨RX5, "copy", "(LBreathTown$State;)V"⟩
def dkwX5_copy_3 : List UInt8 := [28, 43, 180, 0, 25, 28, 46, 79, 132, 2, 1, 167, 255, 211, 177]
abbrev dktX5_copy_3 : List UInt8 := dkwX5_copy_3 ++ []
def dkwX5_copy_2 : List UInt8 := [28, 43, 180, 0, 19, 28, 46, 79, 42, 180, 0, 22, 28, 43, 180, 0, 22, 28, 46, 79, 42, 180, 0, 25]
abbrev dktX5_copy_2 : List UInt8 := dkwX5_copy_2 ++ dktX5_copy_3
def dkwX5_copy_1 : List UInt8 := [180, 0, 15, 28, 46, 79, 132, 2, 1, 167, 255, 235, 3, 61, 28, 16, 6, 162, 0, 45, 42, 180, 0, 19]
abbrev dktX5_copy_1 : List UInt8 := dkwX5_copy_1 ++ dktX5_copy_2
def dkwX5_copy_0 : List UInt8 := [42, 43, 180, 0, 38, 181, 0, 38, 3, 61, 28, 16, 12, 162, 0, 21, 42, 180, 0, 15, 28, 43]
abbrev dktX5_copy_0 : List UInt8 := dkwX5_copy_0 ++ dktX5_copy_1
theorem dksX5_copy_0 : cX5_copy.data.toList.drop 0 = dktX5_copy_0 := by decide +kernel
theorem dksX5_copy_1 : cX5_copy.data.toList.drop 22 = dktX5_copy_1 := dk_seg dksX5_copy_0 22 rfl rfl
theorem dksX5_copy_2 : cX5_copy.data.toList.drop 46 = dktX5_copy_2 := dk_seg dksX5_copy_1 24 rfl rfl
theorem dksX5_copy_3 : cX5_copy.data.toList.drop 70 = dktX5_copy_3 := dk_seg dksX5_copy_2 24 rfl rfl
theorem dX5_copy_0 : decode cX5_copy 0 = .ok (.aload_n 0, 1) := dk_42 (dk_at dksX5_copy_0 0 rfl rfl)
theorem dX5_copy_1 : decode cX5_copy 1 = .ok (.aload_n 1, 1) := dk_43 (dk_at dksX5_copy_0 1 rfl rfl)
theorem dX5_copy_2 : decode cX5_copy 2 = .ok (.getfield 38, 3) := dk_180 0 38 (dk_at dksX5_copy_0 2 rfl rfl)
theorem dX5_copy_5 : decode cX5_copy 5 = .ok (.putfield 38, 3) := dk_181 0 38 (dk_at dksX5_copy_0 5 rfl rfl)
theorem dX5_copy_8 : decode cX5_copy 8 = .ok (.iconst 0, 1) := dk_3 (dk_at dksX5_copy_0 8 rfl rfl)
theorem dX5_copy_9 : decode cX5_copy 9 = .ok (.istore_n 2, 1) := dk_61 (dk_at dksX5_copy_0 9 rfl rfl)
theorem dX5_copy_10 : decode cX5_copy 10 = .ok (.iload_n 2, 1) := dk_28 (dk_at dksX5_copy_0 10 rfl rfl)
theorem dX5_copy_11 : decode cX5_copy 11 = .ok (.bipush 12, 2) := dk_16 12 (dk_at dksX5_copy_0 11 rfl rfl)
theorem dX5_copy_13 : decode cX5_copy 13 = .ok (.if_icmp .ge 21, 3) := dk_162 0 21 (dk_at dksX5_copy_0 13 rfl rfl)
theorem dX5_copy_16 : decode cX5_copy 16 = .ok (.aload_n 0, 1) := dk_42 (dk_at dksX5_copy_0 16 rfl rfl)
theorem dX5_copy_17 : decode cX5_copy 17 = .ok (.getfield 15, 3) := dk_180 0 15 (dk_at dksX5_copy_0 17 rfl rfl)
theorem dX5_copy_20 : decode cX5_copy 20 = .ok (.iload_n 2, 1) := dk_28 (dk_at dksX5_copy_0 20 rfl rfl)
theorem dX5_copy_21 : decode cX5_copy 21 = .ok (.aload_n 1, 1) := dk_43 (dk_at dksX5_copy_0 21 rfl rfl)
theorem dX5_copy_22 : decode cX5_copy 22 = .ok (.getfield 15, 3) := dk_180 0 15 (dk_at dksX5_copy_1 0 rfl rfl)
theorem dX5_copy_25 : decode cX5_copy 25 = .ok (.iload_n 2, 1) := dk_28 (dk_at dksX5_copy_1 3 rfl rfl)
theorem dX5_copy_26 : decode cX5_copy 26 = .ok (.iaload, 1) := dk_46 (dk_at dksX5_copy_1 4 rfl rfl)
theorem dX5_copy_27 : decode cX5_copy 27 = .ok (.iastore, 1) := dk_79 (dk_at dksX5_copy_1 5 rfl rfl)
theorem dX5_copy_28 : decode cX5_copy 28 = .ok (.iinc 2 1, 3) := dk_132 2 1 (dk_at dksX5_copy_1 6 rfl rfl)
theorem dX5_copy_31 : decode cX5_copy 31 = .ok (.goto (-21), 3) := dk_167 255 235 (dk_at dksX5_copy_1 9 rfl rfl)
theorem dX5_copy_34 : decode cX5_copy 34 = .ok (.iconst 0, 1) := dk_3 (dk_at dksX5_copy_1 12 rfl rfl)
theorem dX5_copy_35 : decode cX5_copy 35 = .ok (.istore_n 2, 1) := dk_61 (dk_at dksX5_copy_1 13 rfl rfl)
theorem dX5_copy_36 : decode cX5_copy 36 = .ok (.iload_n 2, 1) := dk_28 (dk_at dksX5_copy_1 14 rfl rfl)
theorem dX5_copy_37 : decode cX5_copy 37 = .ok (.bipush 6, 2) := dk_16 6 (dk_at dksX5_copy_1 15 rfl rfl)
theorem dX5_copy_39 : decode cX5_copy 39 = .ok (.if_icmp .ge 45, 3) := dk_162 0 45 (dk_at dksX5_copy_1 17 rfl rfl)
theorem dX5_copy_42 : decode cX5_copy 42 = .ok (.aload_n 0, 1) := dk_42 (dk_at dksX5_copy_1 20 rfl rfl)
theorem dX5_copy_43 : decode cX5_copy 43 = .ok (.getfield 19, 3) := dk_180 0 19 (dk_at dksX5_copy_1 21 rfl rfl)
theorem dX5_copy_46 : decode cX5_copy 46 = .ok (.iload_n 2, 1) := dk_28 (dk_at dksX5_copy_2 0 rfl rfl)
theorem dX5_copy_47 : decode cX5_copy 47 = .ok (.aload_n 1, 1) := dk_43 (dk_at dksX5_copy_2 1 rfl rfl)
theorem dX5_copy_48 : decode cX5_copy 48 = .ok (.getfield 19, 3) := dk_180 0 19 (dk_at dksX5_copy_2 2 rfl rfl)
theorem dX5_copy_51 : decode cX5_copy 51 = .ok (.iload_n 2, 1) := dk_28 (dk_at dksX5_copy_2 5 rfl rfl)
theorem dX5_copy_52 : decode cX5_copy 52 = .ok (.iaload, 1) := dk_46 (dk_at dksX5_copy_2 6 rfl rfl)
theorem dX5_copy_53 : decode cX5_copy 53 = .ok (.iastore, 1) := dk_79 (dk_at dksX5_copy_2 7 rfl rfl)
theorem dX5_copy_54 : decode cX5_copy 54 = .ok (.aload_n 0, 1) := dk_42 (dk_at dksX5_copy_2 8 rfl rfl)
theorem dX5_copy_55 : decode cX5_copy 55 = .ok (.getfield 22, 3) := dk_180 0 22 (dk_at dksX5_copy_2 9 rfl rfl)
theorem dX5_copy_58 : decode cX5_copy 58 = .ok (.iload_n 2, 1) := dk_28 (dk_at dksX5_copy_2 12 rfl rfl)
theorem dX5_copy_59 : decode cX5_copy 59 = .ok (.aload_n 1, 1) := dk_43 (dk_at dksX5_copy_2 13 rfl rfl)
theorem dX5_copy_60 : decode cX5_copy 60 = .ok (.getfield 22, 3) := dk_180 0 22 (dk_at dksX5_copy_2 14 rfl rfl)
theorem dX5_copy_63 : decode cX5_copy 63 = .ok (.iload_n 2, 1) := dk_28 (dk_at dksX5_copy_2 17 rfl rfl)
theorem dX5_copy_64 : decode cX5_copy 64 = .ok (.iaload, 1) := dk_46 (dk_at dksX5_copy_2 18 rfl rfl)
theorem dX5_copy_65 : decode cX5_copy 65 = .ok (.iastore, 1) := dk_79 (dk_at dksX5_copy_2 19 rfl rfl)
theorem dX5_copy_66 : decode cX5_copy 66 = .ok (.aload_n 0, 1) := dk_42 (dk_at dksX5_copy_2 20 rfl rfl)
theorem dX5_copy_67 : decode cX5_copy 67 = .ok (.getfield 25, 3) := dk_180 0 25 (dk_at dksX5_copy_2 21 rfl rfl)
theorem dX5_copy_70 : decode cX5_copy 70 = .ok (.iload_n 2, 1) := dk_28 (dk_at dksX5_copy_3 0 rfl rfl)
theorem dX5_copy_71 : decode cX5_copy 71 = .ok (.aload_n 1, 1) := dk_43 (dk_at dksX5_copy_3 1 rfl rfl)
theorem dX5_copy_72 : decode cX5_copy 72 = .ok (.getfield 25, 3) := dk_180 0 25 (dk_at dksX5_copy_3 2 rfl rfl)
theorem dX5_copy_75 : decode cX5_copy 75 = .ok (.iload_n 2, 1) := dk_28 (dk_at dksX5_copy_3 5 rfl rfl)
theorem dX5_copy_76 : decode cX5_copy 76 = .ok (.iaload, 1) := dk_46 (dk_at dksX5_copy_3 6 rfl rfl)
theorem dX5_copy_77 : decode cX5_copy 77 = .ok (.iastore, 1) := dk_79 (dk_at dksX5_copy_3 7 rfl rfl)
theorem dX5_copy_78 : decode cX5_copy 78 = .ok (.iinc 2 1, 3) := dk_132 2 1 (dk_at dksX5_copy_3 8 rfl rfl)
theorem dX5_copy_81 : decode cX5_copy 81 = .ok (.goto (-45), 3) := dk_167 255 211 (dk_at dksX5_copy_3 11 rfl rfl)
theorem dX5_copy_84 : decode cX5_copy 84 = .ok (.return_, 1) := dk_177 (dk_at dksX5_copy_3 14 rfl rfl)
theorem q188 : (Jvm.Cond.initialized "BreathTown$State") ∈ lw_all := lw_g (lw_at lw_m1 12 rfl) rfl
theorem q270 : (Jvm.Cond.fieldLinkNest "BreathTown$State" (32 : Nat) "BreathTown$Town" "begin" "I" "BreathTown") ∈ lw_tbl := lw_at lw_m1 94 rfl
theorem q401 : (Jvm.Cond.instantiable "BreathTown$State" (6 : Nat)) ∈ lw_all := lw_g (lw_at lw_m1 225 rfl) rfl
theorem q403 : (Jvm.Cond.instanceMethod ({ cls := "BreathTown$State", name := "<init>", desc := "(LBreathTown;)V" } : Jvm.MethodName)) ∈ lw_all := lw_g (lw_at lw_m1 227 rfl) rfl
theorem q404 : (Jvm.Cond.code ({ cls := "BreathTown$State", name := "<init>", desc := "(LBreathTown;)V" } : Jvm.MethodName) prog_15_method_1_code (2 : Nat) (Option.none : Option Jvm.ClassFile.FieldType)) ∈ lw_all := lw_g (lw_at lw_m1 228 rfl) rfl
theorem q405 : (Jvm.Cond.methodLink "BreathTown$State" (9 : Nat) ({ cls := "java/lang/Object", name := "<init>", desc := "()V" } : Jvm.MethodName)) ∈ lw_all := lw_g (lw_at lw_m1 229 rfl) rfl
theorem q406 : (Jvm.Cond.fieldLink "BreathTown$State" (38 : Nat) "BreathTown$State" "hour" "I") ∈ lw_all := lw_g (lw_at lw_m1 230 rfl) rfl
theorem q408 : (Jvm.Cond.fieldLink "BreathTown$State" (15 : Nat) "BreathTown$State" "shift" "[I") ∈ lw_all := lw_g (lw_at lw_m1 232 rfl) rfl
theorem q410 : (Jvm.Cond.fieldLink "BreathTown$State" (19 : Nat) "BreathTown$State" "at" "[I") ∈ lw_all := lw_g (lw_at lw_m1 234 rfl) rfl
theorem q412 : (Jvm.Cond.fieldLink "BreathTown$State" (22 : Nat) "BreathTown$State" "to" "[I") ∈ lw_all := lw_g (lw_at lw_m1 236 rfl) rfl
theorem q414 : (Jvm.Cond.fieldLink "BreathTown$State" (25 : Nat) "BreathTown$State" "free" "[I") ∈ lw_all := lw_g (lw_at lw_m1 238 rfl) rfl
theorem q416 : (Jvm.Cond.fieldLink "BreathTown$State" (3 : Nat) "BreathTown$State" "this$0" "LBreathTown;") ∈ lw_all := lw_g (lw_at lw_m2 0 rfl) rfl
theorem q417 : (Jvm.Cond.lays "BreathTown$State" "BreathTown$State" "hour" "I") ∈ lw_all := lw_g (lw_at lw_m2 1 rfl) rfl
theorem q418 : (Jvm.Cond.soleField "BreathTown$State" "hour") ∈ lw_all := lw_g (lw_at lw_m2 2 rfl) rfl
theorem q419 : (Jvm.Cond.laysFinal "BreathTown$State" "BreathTown$State" "shift" "[I") ∈ lw_all := lw_g (lw_at lw_m2 3 rfl) rfl
theorem q420 : (Jvm.Cond.soleField "BreathTown$State" "shift") ∈ lw_all := lw_g (lw_at lw_m2 4 rfl) rfl
theorem q421 : (Jvm.Cond.laysFinal "BreathTown$State" "BreathTown$State" "at" "[I") ∈ lw_all := lw_g (lw_at lw_m2 5 rfl) rfl
theorem q422 : (Jvm.Cond.soleField "BreathTown$State" "at") ∈ lw_all := lw_g (lw_at lw_m2 6 rfl) rfl
theorem q423 : (Jvm.Cond.laysFinal "BreathTown$State" "BreathTown$State" "to" "[I") ∈ lw_all := lw_g (lw_at lw_m2 7 rfl) rfl
theorem q424 : (Jvm.Cond.soleField "BreathTown$State" "to") ∈ lw_all := lw_g (lw_at lw_m2 8 rfl) rfl
theorem q425 : (Jvm.Cond.laysFinal "BreathTown$State" "BreathTown$State" "free" "[I") ∈ lw_all := lw_g (lw_at lw_m2 9 rfl) rfl
theorem q426 : (Jvm.Cond.soleField "BreathTown$State" "free") ∈ lw_all := lw_g (lw_at lw_m2 10 rfl) rfl
theorem q427 : (Jvm.Cond.laysFinal "BreathTown$State" "BreathTown$State" "this$0" "LBreathTown;") ∈ lw_all := lw_g (lw_at lw_m2 11 rfl) rfl
theorem q428 : (Jvm.Cond.soleField "BreathTown$State" "this$0") ∈ lw_all := lw_g (lw_at lw_m2 12 rfl) rfl
theorem q429 : (Jvm.Cond.superclass "BreathTown$State" "java/lang/Object") ∈ lw_all := lw_g (lw_at lw_m2 13 rfl) rfl
theorem q434 : (Jvm.Cond.fieldLinkNest "BreathTown$State" (28 : Nat) "BreathTown" "town" "LBreathTown$Town;" "BreathTown") ∈ lw_tbl := lw_at lw_m2 18 rfl
theorem q871 : (Jvm.Cond.selects "BreathTown$State" ({ cls := "java/lang/Object", name := "getClass", desc := "()Ljava/lang/Class;" } : Jvm.MethodName) ({ cls := "java/lang/Object", name := "getClass", desc := "()Ljava/lang/Class;" } : Jvm.MethodName)) ∈ lw_all := lw_g (lw_at lw_m3 215 rfl) rfl
theorem q1134 : (Jvm.Cond.fieldLinkNest "BreathTown$State" (49 : Nat) "BreathTown$Street" "shift" "I" "BreathTown") ∈ lw_tbl := lw_at lw_m4 238 rfl
theorem q1162 : (Jvm.Cond.fieldLinkNest "BreathTown$State" (60 : Nat) "BreathTown$Walker" "at" "I" "BreathTown") ∈ lw_tbl := lw_at lw_m5 26 rfl
theorem q1165 : (Jvm.Cond.fieldLinkNest "BreathTown$State" (64 : Nat) "BreathTown$Walker" "to" "I" "BreathTown") ∈ lw_tbl := lw_at lw_m5 29 rfl
theorem q1176 : (Jvm.Cond.instanceMethod ({ cls := "BreathTown$State", name := "begins", desc := "()V" } : Jvm.MethodName)) ∈ lw_all := lw_g (lw_at lw_m5 40 rfl) rfl
theorem q1177 : (Jvm.Cond.selects "BreathTown$State" ({ cls := "BreathTown$State", name := "begins", desc := "()V" } : Jvm.MethodName) ({ cls := "BreathTown$State", name := "begins", desc := "()V" } : Jvm.MethodName)) ∈ lw_all := lw_g (lw_at lw_m5 41 rfl) rfl
theorem q1178 : (Jvm.Cond.code ({ cls := "BreathTown$State", name := "begins", desc := "()V" } : Jvm.MethodName) prog_15_method_2_code (2 : Nat) (Option.none : Option Jvm.ClassFile.FieldType)) ∈ lw_all := lw_g (lw_at lw_m5 42 rfl) rfl
theorem q1179 : (Jvm.Cond.methodLinkNest "BreathTown$State" (41 : Nat) ({ cls := "BreathTown", name := "streetMany", desc := "()I" } : Jvm.MethodName) "BreathTown") ∈ lw_tbl := lw_at lw_m5 43 rfl
theorem q1185 : (Jvm.Cond.methodLink "BreathTown$State" (45 : Nat) ({ cls := "BreathTown$Town", name := "street", desc := "(I)LBreathTown$Street;" } : Jvm.MethodName)) ∈ lw_all := lw_g (lw_at lw_m5 49 rfl) rfl
theorem q1192 : (Jvm.Cond.methodLinkNest "BreathTown$State" (53 : Nat) ({ cls := "BreathTown", name := "walkerMany", desc := "()I" } : Jvm.MethodName) "BreathTown") ∈ lw_tbl := lw_at lw_m5 56 rfl
theorem q1196 : (Jvm.Cond.methodLink "BreathTown$State" (56 : Nat) ({ cls := "BreathTown$Town", name := "walker", desc := "(I)LBreathTown$Walker;" } : Jvm.MethodName)) ∈ lw_all := lw_g (lw_at lw_m5 60 rfl) rfl
theorem q1477 : (Jvm.Cond.instanceMethod ({ cls := "BreathTown$State", name := "copy", desc := "(LBreathTown$State;)V" } : Jvm.MethodName)) ∈ lw_all := lw_g (lw_at lw_m6 101 rfl) rfl
theorem q1478 : (Jvm.Cond.selects "BreathTown$State" ({ cls := "BreathTown$State", name := "copy", desc := "(LBreathTown$State;)V" } : Jvm.MethodName) ({ cls := "BreathTown$State", name := "copy", desc := "(LBreathTown$State;)V" } : Jvm.MethodName)) ∈ lw_all := lw_g (lw_at lw_m6 102 rfl) rfl
theorem q1479 : (Jvm.Cond.code ({ cls := "BreathTown$State", name := "copy", desc := "(LBreathTown$State;)V" } : Jvm.MethodName) prog_15_method_3_code (3 : Nat) (Option.none : Option Jvm.ClassFile.FieldType)) ∈ lw_all := lw_g (lw_at lw_m6 103 rfl) rfl
theorem q2654 : (Jvm.Cond.castable "BreathTown$State" "java/lang/Object") ∈ lw_tbl := lw_at lw_m11 78 rfl
theorem in_X5 : ∀ w ∈ wsX50, w ∈ lw_all := lw_in wsX50 [417, 419, 421, 423, 425, 427] (by decide +kernel) (by decide +kernel)
/-! BreathTown$Named -/
set_option maxRecDepth 100000
def RX7 : String := "BreathTown$Named"
def TX7 : u_T := fun k => match k with
  | _ => ("BreathTown$Named", "name", "Ljava/lang/String;", true)
def tyX7 : Nat → FieldType := fun k => match k with
  | _ => .object "java/lang/String"
abbrev wsX70 : List Cond := u_ws RX7 TX7 1
theorem nmX7 : ∀ a, a < 1 → ∀ b, b < 1 → a ≠ b → (TX7 a).2.1 ≠ (TX7 b).2.1 := by decide +kernel
theorem tyX7_ok : ∀ k, k < 1 → parseFieldDescriptor (TX7 k).2.2.1 = some (tyX7 k) := by decide +kernel
abbrev cX7_find : ByteArray := prog_10_method_2_code
def yX7_find : MethodName := ⟨RX7, "find", "(Ljava/util/List;Ljava/lang/String;)I"⟩
def dkwX7_find_1 : List UInt8 := [180, 0, 9, 43, 182, 0, 25, 153, 0, 5, 28, 172, 132, 2, 1, 167, 255, 221, 2, 172]
abbrev dktX7_find_1 : List UInt8 := dkwX7_find_1 ++ []
def dkwX7_find_0 : List UInt8 := [3, 61, 28, 42, 185, 0, 15, 1, 0, 162, 0, 31, 42, 28, 185, 0, 21, 2, 0, 192, 0, 10]
abbrev dktX7_find_0 : List UInt8 := dkwX7_find_0 ++ dktX7_find_1
theorem dksX7_find_0 : cX7_find.data.toList.drop 0 = dktX7_find_0 := by decide +kernel
theorem dksX7_find_1 : cX7_find.data.toList.drop 22 = dktX7_find_1 := dk_seg dksX7_find_0 22 rfl rfl
theorem dX7_find_0 : decode cX7_find 0 = .ok (.iconst 0, 1) := dk_3 (dk_at dksX7_find_0 0 rfl rfl)
theorem dX7_find_1 : decode cX7_find 1 = .ok (.istore_n 2, 1) := dk_61 (dk_at dksX7_find_0 1 rfl rfl)
theorem dX7_find_2 : decode cX7_find 2 = .ok (.iload_n 2, 1) := dk_28 (dk_at dksX7_find_0 2 rfl rfl)
theorem dX7_find_3 : decode cX7_find 3 = .ok (.aload_n 0, 1) := dk_42 (dk_at dksX7_find_0 3 rfl rfl)
theorem dX7_find_4 : decode cX7_find 4 = .ok (.invokeinterface 15 1, 5) := by decide +kernel
theorem dX7_find_9 : decode cX7_find 9 = .ok (.if_icmp .ge 31, 3) := dk_162 0 31 (dk_at dksX7_find_0 9 rfl rfl)
theorem dX7_find_12 : decode cX7_find 12 = .ok (.aload_n 0, 1) := dk_42 (dk_at dksX7_find_0 12 rfl rfl)
theorem dX7_find_13 : decode cX7_find 13 = .ok (.iload_n 2, 1) := dk_28 (dk_at dksX7_find_0 13 rfl rfl)
theorem dX7_find_14 : decode cX7_find 14 = .ok (.invokeinterface 21 2, 5) := by decide +kernel
theorem dX7_find_19 : decode cX7_find 19 = .ok (.checkcast 10, 3) := dk_192 0 10 (dk_at dksX7_find_0 19 rfl rfl)
theorem dX7_find_22 : decode cX7_find 22 = .ok (.getfield 9, 3) := dk_180 0 9 (dk_at dksX7_find_1 0 rfl rfl)
theorem dX7_find_25 : decode cX7_find 25 = .ok (.aload_n 1, 1) := dk_43 (dk_at dksX7_find_1 3 rfl rfl)
theorem dX7_find_26 : decode cX7_find 26 = .ok (.invokevirtual 25, 3) := dk_182 0 25 (dk_at dksX7_find_1 4 rfl rfl)
theorem dX7_find_29 : decode cX7_find 29 = .ok (.ifCond .eq 5, 3) := dk_153 0 5 (dk_at dksX7_find_1 7 rfl rfl)
theorem dX7_find_32 : decode cX7_find 32 = .ok (.iload_n 2, 1) := dk_28 (dk_at dksX7_find_1 10 rfl rfl)
theorem dX7_find_33 : decode cX7_find 33 = .ok (.ireturn, 1) := dk_172 (dk_at dksX7_find_1 11 rfl rfl)
theorem dX7_find_34 : decode cX7_find 34 = .ok (.iinc 2 1, 3) := dk_132 2 1 (dk_at dksX7_find_1 12 rfl rfl)
theorem dX7_find_37 : decode cX7_find 37 = .ok (.goto (-35), 3) := dk_167 255 221 (dk_at dksX7_find_1 15 rfl rfl)
theorem dX7_find_40 : decode cX7_find 40 = .ok (.iconst (-1), 1) := dk_2 (dk_at dksX7_find_1 18 rfl rfl)
theorem dX7_find_41 : decode cX7_find 41 = .ok (.ireturn, 1) := dk_172 (dk_at dksX7_find_1 19 rfl rfl)
abbrev cX7_init : ByteArray := prog_10_method_1_code
def yX7_init : MethodName := ⟨RX7, "<init>", "(Ljava/lang/String;)V"⟩
def dkwX7_init_0 : List UInt8 := [42, 183, 0, 3, 42, 43, 181, 0, 9, 177]
abbrev dktX7_init_0 : List UInt8 := dkwX7_init_0 ++ []
theorem dksX7_init_0 : cX7_init.data.toList.drop 0 = dktX7_init_0 := by decide +kernel
theorem dX7_init_0 : decode cX7_init 0 = .ok (.aload_n 0, 1) := dk_42 (dk_at dksX7_init_0 0 rfl rfl)
theorem dX7_init_1 : decode cX7_init 1 = .ok (.invokespecial 3, 3) := dk_183 0 3 (dk_at dksX7_init_0 1 rfl rfl)
theorem dX7_init_4 : decode cX7_init 4 = .ok (.aload_n 0, 1) := dk_42 (dk_at dksX7_init_0 4 rfl rfl)
theorem dX7_init_5 : decode cX7_init 5 = .ok (.aload_n 1, 1) := dk_43 (dk_at dksX7_init_0 5 rfl rfl)
theorem dX7_init_6 : decode cX7_init 6 = .ok (.putfield 9, 3) := dk_181 0 9 (dk_at dksX7_init_0 6 rfl rfl)
theorem dX7_init_9 : decode cX7_init 9 = .ok (.return_, 1) := dk_177 (dk_at dksX7_init_0 9 rfl rfl)
abbrev cX7_letter : ByteArray := prog_10_method_3_code
def yX7_letter : MethodName := ⟨RX7, "letter", "(I)I"⟩
def dkwX7_letter_1 : List UInt8 := [167, 0, 4, 3, 172]
abbrev dktX7_letter_1 : List UInt8 := dkwX7_letter_1 ++ []
def dkwX7_letter_0 : List UInt8 := [27, 42, 180, 0, 9, 182, 0, 31, 162, 0, 19, 42, 180, 0, 9, 27, 182, 0, 34, 16, 97, 100, 4, 96]
abbrev dktX7_letter_0 : List UInt8 := dkwX7_letter_0 ++ dktX7_letter_1
theorem dksX7_letter_0 : cX7_letter.data.toList.drop 0 = dktX7_letter_0 := by decide +kernel
theorem dksX7_letter_1 : cX7_letter.data.toList.drop 24 = dktX7_letter_1 := dk_seg dksX7_letter_0 24 rfl rfl
theorem dX7_letter_0 : decode cX7_letter 0 = .ok (.iload_n 1, 1) := dk_27 (dk_at dksX7_letter_0 0 rfl rfl)
theorem dX7_letter_1 : decode cX7_letter 1 = .ok (.aload_n 0, 1) := dk_42 (dk_at dksX7_letter_0 1 rfl rfl)
theorem dX7_letter_2 : decode cX7_letter 2 = .ok (.getfield 9, 3) := dk_180 0 9 (dk_at dksX7_letter_0 2 rfl rfl)
theorem dX7_letter_5 : decode cX7_letter 5 = .ok (.invokevirtual 31, 3) := dk_182 0 31 (dk_at dksX7_letter_0 5 rfl rfl)
theorem dX7_letter_8 : decode cX7_letter 8 = .ok (.if_icmp .ge 19, 3) := dk_162 0 19 (dk_at dksX7_letter_0 8 rfl rfl)
theorem dX7_letter_11 : decode cX7_letter 11 = .ok (.aload_n 0, 1) := dk_42 (dk_at dksX7_letter_0 11 rfl rfl)
theorem dX7_letter_12 : decode cX7_letter 12 = .ok (.getfield 9, 3) := dk_180 0 9 (dk_at dksX7_letter_0 12 rfl rfl)
theorem dX7_letter_15 : decode cX7_letter 15 = .ok (.iload_n 1, 1) := dk_27 (dk_at dksX7_letter_0 15 rfl rfl)
theorem dX7_letter_16 : decode cX7_letter 16 = .ok (.invokevirtual 34, 3) := dk_182 0 34 (dk_at dksX7_letter_0 16 rfl rfl)
theorem dX7_letter_19 : decode cX7_letter 19 = .ok (.bipush 97, 2) := dk_16 97 (dk_at dksX7_letter_0 19 rfl rfl)
theorem dX7_letter_21 : decode cX7_letter 21 = .ok (.isub, 1) := dk_100 (dk_at dksX7_letter_0 21 rfl rfl)
theorem dX7_letter_22 : decode cX7_letter 22 = .ok (.iconst 1, 1) := dk_4 (dk_at dksX7_letter_0 22 rfl rfl)
theorem dX7_letter_23 : decode cX7_letter 23 = .ok (.iadd, 1) := dk_96 (dk_at dksX7_letter_0 23 rfl rfl)
theorem dX7_letter_24 : decode cX7_letter 24 = .ok (.goto 4, 3) := dk_167 0 4 (dk_at dksX7_letter_1 0 rfl rfl)
theorem dX7_letter_27 : decode cX7_letter 27 = .ok (.iconst 0, 1) := dk_3 (dk_at dksX7_letter_1 3 rfl rfl)
theorem dX7_letter_28 : decode cX7_letter 28 = .ok (.ireturn, 1) := dk_172 (dk_at dksX7_letter_1 4 rfl rfl)
theorem q195 : (Jvm.Cond.initialized "BreathTown$Named") ∈ lw_all := lw_g (lw_at lw_m1 19 rfl) rfl
theorem q761 : (Jvm.Cond.instantiable "BreathTown$Named" (1 : Nat)) ∈ lw_all := lw_g (lw_at lw_m3 105 rfl) rfl
theorem q785 : (Jvm.Cond.static ({ cls := "BreathTown$Named", name := "find", desc := "(Ljava/util/List;Ljava/lang/String;)I" } : Jvm.MethodName)) ∈ lw_all := lw_g (lw_at lw_m3 129 rfl) rfl
theorem q786 : (Jvm.Cond.code ({ cls := "BreathTown$Named", name := "find", desc := "(Ljava/util/List;Ljava/lang/String;)I" } : Jvm.MethodName) prog_10_method_2_code (3 : Nat) (Option.some Jvm.ClassFile.FieldType.int)) ∈ lw_all := lw_g (lw_at lw_m3 130 rfl) rfl
theorem q787 : (Jvm.Cond.interfaceEntry "BreathTown$Named" (15 : Nat)) ∈ lw_tbl := lw_at lw_m3 131 rfl
theorem q788 : (Jvm.Cond.methodLink "BreathTown$Named" (15 : Nat) ({ cls := "java/util/List", name := "size", desc := "()I" } : Jvm.MethodName)) ∈ lw_all := lw_g (lw_at lw_m3 132 rfl) rfl
theorem q789 : (Jvm.Cond.interfaceEntry "BreathTown$Named" (21 : Nat)) ∈ lw_tbl := lw_at lw_m3 133 rfl
theorem q790 : (Jvm.Cond.methodLink "BreathTown$Named" (21 : Nat) ({ cls := "java/util/List", name := "get", desc := "(I)Ljava/lang/Object;" } : Jvm.MethodName)) ∈ lw_all := lw_g (lw_at lw_m3 134 rfl) rfl
theorem q808 : (Jvm.Cond.classLink "BreathTown$Named" (10 : Nat) "BreathTown$Named") ∈ lw_all := lw_g (lw_at lw_m3 152 rfl) rfl
theorem q809 : (Jvm.Cond.methodLink "BreathTown$Named" (25 : Nat) ({ cls := "java/lang/String", name := "equals", desc := "(Ljava/lang/Object;)Z" } : Jvm.MethodName)) ∈ lw_all := lw_g (lw_at lw_m3 153 rfl) rfl
theorem q811 : (Jvm.Cond.instanceMethod ({ cls := "BreathTown$Named", name := "<init>", desc := "(Ljava/lang/String;)V" } : Jvm.MethodName)) ∈ lw_all := lw_g (lw_at lw_m3 155 rfl) rfl
theorem q812 : (Jvm.Cond.code ({ cls := "BreathTown$Named", name := "<init>", desc := "(Ljava/lang/String;)V" } : Jvm.MethodName) prog_10_method_1_code (2 : Nat) (Option.none : Option Jvm.ClassFile.FieldType)) ∈ lw_all := lw_g (lw_at lw_m3 156 rfl) rfl
theorem q813 : (Jvm.Cond.methodLink "BreathTown$Named" (3 : Nat) ({ cls := "java/lang/Object", name := "<init>", desc := "()V" } : Jvm.MethodName)) ∈ lw_all := lw_g (lw_at lw_m3 157 rfl) rfl
theorem q814 : (Jvm.Cond.fieldLink "BreathTown$Named" (9 : Nat) "BreathTown$Named" "name" "Ljava/lang/String;") ∈ lw_all := lw_g (lw_at lw_m3 158 rfl) rfl
theorem q815 : (Jvm.Cond.laysFinal "BreathTown$Named" "BreathTown$Named" "name" "Ljava/lang/String;") ∈ lw_all := lw_g (lw_at lw_m3 159 rfl) rfl
theorem q816 : (Jvm.Cond.soleField "BreathTown$Named" "name") ∈ lw_all := lw_g (lw_at lw_m3 160 rfl) rfl
theorem q817 : (Jvm.Cond.superclass "BreathTown$Named" "java/lang/Object") ∈ lw_all := lw_g (lw_at lw_m3 161 rfl) rfl
theorem q866 : (Jvm.Cond.selects "BreathTown$Named" ({ cls := "java/lang/Object", name := "getClass", desc := "()Ljava/lang/Class;" } : Jvm.MethodName) ({ cls := "java/lang/Object", name := "getClass", desc := "()Ljava/lang/Class;" } : Jvm.MethodName)) ∈ lw_all := lw_g (lw_at lw_m3 210 rfl) rfl
theorem q1341 : (Jvm.Cond.instanceMethod ({ cls := "BreathTown$Named", name := "letter", desc := "(I)I" } : Jvm.MethodName)) ∈ lw_all := lw_g (lw_at lw_m5 205 rfl) rfl
theorem q1342 : (Jvm.Cond.selects "BreathTown$Named" ({ cls := "BreathTown$Named", name := "letter", desc := "(I)I" } : Jvm.MethodName) ({ cls := "BreathTown$Named", name := "letter", desc := "(I)I" } : Jvm.MethodName)) ∈ lw_all := lw_g (lw_at lw_m5 206 rfl) rfl
theorem q1343 : (Jvm.Cond.sameMethod "BreathTown$Named" "BreathTown$Named" "letter" "(I)I") ∈ lw_all := lw_g (lw_at lw_m5 207 rfl) rfl
theorem q1346 : (Jvm.Cond.code ({ cls := "BreathTown$Named", name := "letter", desc := "(I)I" } : Jvm.MethodName) prog_10_method_3_code (2 : Nat) (Option.some Jvm.ClassFile.FieldType.int)) ∈ lw_all := lw_g (lw_at lw_m5 210 rfl) rfl
theorem q1347 : (Jvm.Cond.methodLink "BreathTown$Named" (31 : Nat) ({ cls := "java/lang/String", name := "length", desc := "()I" } : Jvm.MethodName)) ∈ lw_all := lw_g (lw_at lw_m5 211 rfl) rfl
theorem q1348 : (Jvm.Cond.methodLink "BreathTown$Named" (34 : Nat) ({ cls := "java/lang/String", name := "charAt", desc := "(I)C" } : Jvm.MethodName)) ∈ lw_all := lw_g (lw_at lw_m5 212 rfl) rfl
theorem q2664 : (Jvm.Cond.castable "BreathTown$Named" "java/lang/Object") ∈ lw_tbl := lw_at lw_m11 88 rfl
theorem in_X7 : ∀ w ∈ wsX70, w ∈ lw_all := lw_in wsX70 [815] (by decide +kernel) (by decide +kernel)
/-! BreathTown$Street -/
set_option maxRecDepth 100000
def RX8 : String := "BreathTown$Street"
def TX8 : u_T := fun k => match k with
  | 0 => ("BreathTown$Named", "name", "Ljava/lang/String;", true)
  | 1 => ("BreathTown$Street", "from", "I", true)
  | 2 => ("BreathTown$Street", "to", "I", true)
  | 3 => ("BreathTown$Street", "takes", "I", true)
  | 4 => ("BreathTown$Street", "round", "I", true)
  | 5 => ("BreathTown$Street", "shift", "I", true)
  | _ => ("BreathTown$Street", "sum", "LBreathTown$Value;", true)
def tyX8 : Nat → FieldType := fun k => match k with
  | 0 => .object "java/lang/String"
  | 1 => .int
  | 2 => .int
  | 3 => .int
  | 4 => .int
  | 5 => .int
  | _ => .object "BreathTown$Value"
abbrev wsX80 : List Cond := u_ws RX8 TX8 7
theorem nmX8 : ∀ a, a < 7 → ∀ b, b < 7 → a ≠ b → (TX8 a).2.1 ≠ (TX8 b).2.1 := by decide +kernel
theorem tyX8_ok : ∀ k, k < 7 → parseFieldDescriptor (TX8 k).2.2.1 = some (tyX8 k) := by decide +kernel
abbrev cX8_init : ByteArray := prog_16_method_1_code
def yX8_init : MethodName := ⟨RX8, "<init>", "(Ljava/lang/String;IIIIILBreathTown$Value;)V"⟩
def dkwX8_init_1 : List UInt8 := [181, 0, 21, 42, 21, 6, 21, 5, 112, 181, 0, 24, 42, 25, 7, 181, 0, 27, 177]
abbrev dktX8_init_1 : List UInt8 := dkwX8_init_1 ++ []
def dkwX8_init_0 : List UInt8 := [42, 43, 183, 0, 3, 42, 28, 181, 0, 9, 42, 29, 181, 0, 15, 42, 21, 4, 181, 0, 18, 42, 21, 5]
abbrev dktX8_init_0 : List UInt8 := dkwX8_init_0 ++ dktX8_init_1
theorem dksX8_init_0 : cX8_init.data.toList.drop 0 = dktX8_init_0 := by decide +kernel
theorem dksX8_init_1 : cX8_init.data.toList.drop 24 = dktX8_init_1 := dk_seg dksX8_init_0 24 rfl rfl
theorem dX8_init_0 : decode cX8_init 0 = .ok (.aload_n 0, 1) := dk_42 (dk_at dksX8_init_0 0 rfl rfl)
theorem dX8_init_1 : decode cX8_init 1 = .ok (.aload_n 1, 1) := dk_43 (dk_at dksX8_init_0 1 rfl rfl)
theorem dX8_init_2 : decode cX8_init 2 = .ok (.invokespecial 3, 3) := dk_183 0 3 (dk_at dksX8_init_0 2 rfl rfl)
theorem dX8_init_5 : decode cX8_init 5 = .ok (.aload_n 0, 1) := dk_42 (dk_at dksX8_init_0 5 rfl rfl)
theorem dX8_init_6 : decode cX8_init 6 = .ok (.iload_n 2, 1) := dk_28 (dk_at dksX8_init_0 6 rfl rfl)
theorem dX8_init_7 : decode cX8_init 7 = .ok (.putfield 9, 3) := dk_181 0 9 (dk_at dksX8_init_0 7 rfl rfl)
theorem dX8_init_10 : decode cX8_init 10 = .ok (.aload_n 0, 1) := dk_42 (dk_at dksX8_init_0 10 rfl rfl)
theorem dX8_init_11 : decode cX8_init 11 = .ok (.iload_n 3, 1) := dk_29 (dk_at dksX8_init_0 11 rfl rfl)
theorem dX8_init_12 : decode cX8_init 12 = .ok (.putfield 15, 3) := dk_181 0 15 (dk_at dksX8_init_0 12 rfl rfl)
theorem dX8_init_15 : decode cX8_init 15 = .ok (.aload_n 0, 1) := dk_42 (dk_at dksX8_init_0 15 rfl rfl)
theorem dX8_init_16 : decode cX8_init 16 = .ok (.iload 4, 2) := dk_21 4 (dk_at dksX8_init_0 16 rfl rfl)
theorem dX8_init_18 : decode cX8_init 18 = .ok (.putfield 18, 3) := dk_181 0 18 (dk_at dksX8_init_0 18 rfl rfl)
theorem dX8_init_21 : decode cX8_init 21 = .ok (.aload_n 0, 1) := dk_42 (dk_at dksX8_init_0 21 rfl rfl)
theorem dX8_init_22 : decode cX8_init 22 = .ok (.iload 5, 2) := dk_21 5 (dk_at dksX8_init_0 22 rfl rfl)
theorem dX8_init_24 : decode cX8_init 24 = .ok (.putfield 21, 3) := dk_181 0 21 (dk_at dksX8_init_1 0 rfl rfl)
theorem dX8_init_27 : decode cX8_init 27 = .ok (.aload_n 0, 1) := dk_42 (dk_at dksX8_init_1 3 rfl rfl)
theorem dX8_init_28 : decode cX8_init 28 = .ok (.iload 6, 2) := dk_21 6 (dk_at dksX8_init_1 4 rfl rfl)
theorem dX8_init_30 : decode cX8_init 30 = .ok (.iload 5, 2) := dk_21 5 (dk_at dksX8_init_1 6 rfl rfl)
theorem dX8_init_32 : decode cX8_init 32 = .ok (.irem, 1) := dk_112 (dk_at dksX8_init_1 8 rfl rfl)
theorem dX8_init_33 : decode cX8_init 33 = .ok (.putfield 24, 3) := dk_181 0 24 (dk_at dksX8_init_1 9 rfl rfl)
theorem dX8_init_36 : decode cX8_init 36 = .ok (.aload_n 0, 1) := dk_42 (dk_at dksX8_init_1 12 rfl rfl)
theorem dX8_init_37 : decode cX8_init 37 = .ok (.aload 7, 2) := dk_25 7 (dk_at dksX8_init_1 13 rfl rfl)
theorem dX8_init_39 : decode cX8_init 39 = .ok (.putfield 27, 3) := dk_181 0 27 (dk_at dksX8_init_1 15 rfl rfl)
theorem dX8_init_42 : decode cX8_init 42 = .ok (.return_, 1) := dk_177 (dk_at dksX8_init_1 18 rfl rfl)
abbrev cX8_other : ByteArray := prog_16_method_2_code
def yX8_other : MethodName := ⟨RX8, "other", "(I)I"⟩
def dkwX8_other_1 : List UInt8 := [180, 0, 9, 167, 0, 4, 2, 172]
abbrev dktX8_other_1 : List UInt8 := dkwX8_other_1 ++ []
def dkwX8_other_0 : List UInt8 := [27, 42, 180, 0, 9, 160, 0, 10, 42, 180, 0, 15, 167, 0, 19, 27, 42, 180, 0, 15, 160, 0, 10, 42]
abbrev dktX8_other_0 : List UInt8 := dkwX8_other_0 ++ dktX8_other_1
theorem dksX8_other_0 : cX8_other.data.toList.drop 0 = dktX8_other_0 := by decide +kernel
theorem dksX8_other_1 : cX8_other.data.toList.drop 24 = dktX8_other_1 := dk_seg dksX8_other_0 24 rfl rfl
theorem dX8_other_0 : decode cX8_other 0 = .ok (.iload_n 1, 1) := dk_27 (dk_at dksX8_other_0 0 rfl rfl)
theorem dX8_other_1 : decode cX8_other 1 = .ok (.aload_n 0, 1) := dk_42 (dk_at dksX8_other_0 1 rfl rfl)
theorem dX8_other_2 : decode cX8_other 2 = .ok (.getfield 9, 3) := dk_180 0 9 (dk_at dksX8_other_0 2 rfl rfl)
theorem dX8_other_5 : decode cX8_other 5 = .ok (.if_icmp .ne 10, 3) := dk_160 0 10 (dk_at dksX8_other_0 5 rfl rfl)
theorem dX8_other_8 : decode cX8_other 8 = .ok (.aload_n 0, 1) := dk_42 (dk_at dksX8_other_0 8 rfl rfl)
theorem dX8_other_9 : decode cX8_other 9 = .ok (.getfield 15, 3) := dk_180 0 15 (dk_at dksX8_other_0 9 rfl rfl)
theorem dX8_other_12 : decode cX8_other 12 = .ok (.goto 19, 3) := dk_167 0 19 (dk_at dksX8_other_0 12 rfl rfl)
theorem dX8_other_15 : decode cX8_other 15 = .ok (.iload_n 1, 1) := dk_27 (dk_at dksX8_other_0 15 rfl rfl)
theorem dX8_other_16 : decode cX8_other 16 = .ok (.aload_n 0, 1) := dk_42 (dk_at dksX8_other_0 16 rfl rfl)
theorem dX8_other_17 : decode cX8_other 17 = .ok (.getfield 15, 3) := dk_180 0 15 (dk_at dksX8_other_0 17 rfl rfl)
theorem dX8_other_20 : decode cX8_other 20 = .ok (.if_icmp .ne 10, 3) := dk_160 0 10 (dk_at dksX8_other_0 20 rfl rfl)
theorem dX8_other_23 : decode cX8_other 23 = .ok (.aload_n 0, 1) := dk_42 (dk_at dksX8_other_0 23 rfl rfl)
theorem dX8_other_24 : decode cX8_other 24 = .ok (.getfield 9, 3) := dk_180 0 9 (dk_at dksX8_other_1 0 rfl rfl)
theorem dX8_other_27 : decode cX8_other 27 = .ok (.goto 4, 3) := dk_167 0 4 (dk_at dksX8_other_1 3 rfl rfl)
theorem dX8_other_30 : decode cX8_other 30 = .ok (.iconst (-1), 1) := dk_2 (dk_at dksX8_other_1 6 rfl rfl)
theorem dX8_other_31 : decode cX8_other 31 = .ok (.ireturn, 1) := dk_172 (dk_at dksX8_other_1 7 rfl rfl)
theorem q200 : (Jvm.Cond.initialized "BreathTown$Street") ∈ lw_all := lw_g (lw_at lw_m1 24 rfl) rfl
theorem q872 : (Jvm.Cond.selects "BreathTown$Street" ({ cls := "java/lang/Object", name := "getClass", desc := "()Ljava/lang/Class;" } : Jvm.MethodName) ({ cls := "java/lang/Object", name := "getClass", desc := "()Ljava/lang/Class;" } : Jvm.MethodName)) ∈ lw_all := lw_g (lw_at lw_m3 216 rfl) rfl
theorem q928 : (Jvm.Cond.instantiable "BreathTown$Street" (7 : Nat)) ∈ lw_all := lw_g (lw_at lw_m4 32 rfl) rfl
theorem q1122 : (Jvm.Cond.instanceMethod ({ cls := "BreathTown$Street", name := "<init>", desc := "(Ljava/lang/String;IIIIILBreathTown$Value;)V" } : Jvm.MethodName)) ∈ lw_all := lw_g (lw_at lw_m4 226 rfl) rfl
theorem q1123 : (Jvm.Cond.code ({ cls := "BreathTown$Street", name := "<init>", desc := "(Ljava/lang/String;IIIIILBreathTown$Value;)V" } : Jvm.MethodName) prog_16_method_1_code (8 : Nat) (Option.none : Option Jvm.ClassFile.FieldType)) ∈ lw_all := lw_g (lw_at lw_m4 227 rfl) rfl
theorem q1124 : (Jvm.Cond.methodLink "BreathTown$Street" (3 : Nat) ({ cls := "BreathTown$Named", name := "<init>", desc := "(Ljava/lang/String;)V" } : Jvm.MethodName)) ∈ lw_all := lw_g (lw_at lw_m4 228 rfl) rfl
theorem q1125 : (Jvm.Cond.fieldLink "BreathTown$Street" (9 : Nat) "BreathTown$Street" "from" "I") ∈ lw_all := lw_g (lw_at lw_m4 229 rfl) rfl
theorem q1127 : (Jvm.Cond.fieldLink "BreathTown$Street" (15 : Nat) "BreathTown$Street" "to" "I") ∈ lw_all := lw_g (lw_at lw_m4 231 rfl) rfl
theorem q1129 : (Jvm.Cond.fieldLink "BreathTown$Street" (18 : Nat) "BreathTown$Street" "takes" "I") ∈ lw_all := lw_g (lw_at lw_m4 233 rfl) rfl
theorem q1131 : (Jvm.Cond.fieldLink "BreathTown$Street" (21 : Nat) "BreathTown$Street" "round" "I") ∈ lw_all := lw_g (lw_at lw_m4 235 rfl) rfl
theorem q1133 : (Jvm.Cond.fieldLink "BreathTown$Street" (24 : Nat) "BreathTown$Street" "shift" "I") ∈ lw_all := lw_g (lw_at lw_m4 237 rfl) rfl
theorem q1135 : (Jvm.Cond.fieldLink "BreathTown$Street" (27 : Nat) "BreathTown$Street" "sum" "LBreathTown$Value;") ∈ lw_all := lw_g (lw_at lw_m4 239 rfl) rfl
theorem q1137 : (Jvm.Cond.laysFinal "BreathTown$Street" "BreathTown$Street" "from" "I") ∈ lw_all := lw_g (lw_at lw_m5 1 rfl) rfl
theorem q1138 : (Jvm.Cond.soleField "BreathTown$Street" "from") ∈ lw_all := lw_g (lw_at lw_m5 2 rfl) rfl
theorem q1139 : (Jvm.Cond.laysFinal "BreathTown$Street" "BreathTown$Street" "to" "I") ∈ lw_all := lw_g (lw_at lw_m5 3 rfl) rfl
theorem q1140 : (Jvm.Cond.soleField "BreathTown$Street" "to") ∈ lw_all := lw_g (lw_at lw_m5 4 rfl) rfl
theorem q1141 : (Jvm.Cond.laysFinal "BreathTown$Street" "BreathTown$Street" "takes" "I") ∈ lw_all := lw_g (lw_at lw_m5 5 rfl) rfl
theorem q1142 : (Jvm.Cond.soleField "BreathTown$Street" "takes") ∈ lw_all := lw_g (lw_at lw_m5 6 rfl) rfl
theorem q1143 : (Jvm.Cond.laysFinal "BreathTown$Street" "BreathTown$Street" "round" "I") ∈ lw_all := lw_g (lw_at lw_m5 7 rfl) rfl
theorem q1144 : (Jvm.Cond.soleField "BreathTown$Street" "round") ∈ lw_all := lw_g (lw_at lw_m5 8 rfl) rfl
theorem q1145 : (Jvm.Cond.laysFinal "BreathTown$Street" "BreathTown$Street" "shift" "I") ∈ lw_all := lw_g (lw_at lw_m5 9 rfl) rfl
theorem q1146 : (Jvm.Cond.soleField "BreathTown$Street" "shift") ∈ lw_all := lw_g (lw_at lw_m5 10 rfl) rfl
theorem q1147 : (Jvm.Cond.laysFinal "BreathTown$Street" "BreathTown$Street" "sum" "LBreathTown$Value;") ∈ lw_all := lw_g (lw_at lw_m5 11 rfl) rfl
theorem q1148 : (Jvm.Cond.soleField "BreathTown$Street" "sum") ∈ lw_all := lw_g (lw_at lw_m5 12 rfl) rfl
theorem q1149 : (Jvm.Cond.laysFinal "BreathTown$Street" "BreathTown$Named" "name" "Ljava/lang/String;") ∈ lw_all := lw_g (lw_at lw_m5 13 rfl) rfl
theorem q1150 : (Jvm.Cond.superclass "BreathTown$Street" "BreathTown$Named") ∈ lw_all := lw_g (lw_at lw_m5 14 rfl) rfl
theorem q1344 : (Jvm.Cond.selects "BreathTown$Street" ({ cls := "BreathTown$Named", name := "letter", desc := "(I)I" } : Jvm.MethodName) ({ cls := "BreathTown$Named", name := "letter", desc := "(I)I" } : Jvm.MethodName)) ∈ lw_all := lw_g (lw_at lw_m5 208 rfl) rfl
theorem q1394 : (Jvm.Cond.instanceMethod ({ cls := "BreathTown$Street", name := "other", desc := "(I)I" } : Jvm.MethodName)) ∈ lw_all := lw_g (lw_at lw_m6 18 rfl) rfl
theorem q1395 : (Jvm.Cond.selects "BreathTown$Street" ({ cls := "BreathTown$Street", name := "other", desc := "(I)I" } : Jvm.MethodName) ({ cls := "BreathTown$Street", name := "other", desc := "(I)I" } : Jvm.MethodName)) ∈ lw_all := lw_g (lw_at lw_m6 19 rfl) rfl
theorem q1396 : (Jvm.Cond.code ({ cls := "BreathTown$Street", name := "other", desc := "(I)I" } : Jvm.MethodName) prog_16_method_2_code (2 : Nat) (Option.some Jvm.ClassFile.FieldType.int)) ∈ lw_all := lw_g (lw_at lw_m6 20 rfl) rfl
theorem q2643 : (Jvm.Cond.castable "BreathTown$Street" "BreathTown$Named") ∈ lw_tbl := lw_at lw_m11 67 rfl
theorem q2665 : (Jvm.Cond.castable "BreathTown$Street" "java/lang/Object") ∈ lw_tbl := lw_at lw_m11 89 rfl
theorem in_X8 : ∀ w ∈ wsX80, w ∈ lw_all := lw_in wsX80 [1149, 1137, 1139, 1141, 1143, 1145, 1147] (by decide +kernel) (by decide +kernel)
/-! BreathTown$Value -/
set_option maxRecDepth 100000
def RX9 : String := "BreathTown$Value"
abbrev cX9_init : ByteArray := prog_20_method_1_code
def yX9_init : MethodName := ⟨RX9, "<init>", "()V"⟩
theorem dX9_init_0 : decode cX9_init 0 = .ok (.aload_n 0, 1) := by decide +kernel
theorem dX9_init_1 : decode cX9_init 1 = .ok (.invokespecial 1, 3) := by decide +kernel
theorem dX9_init_4 : decode cX9_init 4 = .ok (.return_, 1) := by decide +kernel
theorem q201 : (Jvm.Cond.initialized "BreathTown$Value") ∈ lw_all := lw_g (lw_at lw_m1 25 rfl) rfl
theorem q939 : (Jvm.Cond.instanceMethod ({ cls := "BreathTown$Value", name := "<init>", desc := "()V" } : Jvm.MethodName)) ∈ lw_all := lw_g (lw_at lw_m4 43 rfl) rfl
theorem q940 : (Jvm.Cond.code ({ cls := "BreathTown$Value", name := "<init>", desc := "()V" } : Jvm.MethodName) prog_20_method_1_code (1 : Nat) (Option.none : Option Jvm.ClassFile.FieldType)) ∈ lw_all := lw_g (lw_at lw_m4 44 rfl) rfl
theorem q941 : (Jvm.Cond.methodLink "BreathTown$Value" (1 : Nat) ({ cls := "java/lang/Object", name := "<init>", desc := "()V" } : Jvm.MethodName)) ∈ lw_all := lw_g (lw_at lw_m4 45 rfl) rfl
theorem q1231 : (Jvm.Cond.declares ({ cls := "BreathTown$Value", name := "at", desc := "(LBreathTown$Moment;)J" } : Jvm.MethodName)) ∈ lw_tbl := lw_at lw_m5 95 rfl
theorem q1232 : (Jvm.Cond.sameMethod "BreathTown$Value" "BreathTown$Value" "at" "(LBreathTown$Moment;)J") ∈ lw_all := lw_g (lw_at lw_m5 96 rfl) rfl
/-! BreathTown$Chain -/
set_option maxRecDepth 100000
def RX10 : String := "BreathTown$Chain"
def TX10 : u_T := fun k => match k with
  | 0 => ("BreathTown$Chain", "values", "Ljava/util/List;", true)
  | _ => ("BreathTown$Chain", "signs", "Ljava/lang/StringBuilder;", true)
def tyX10 : Nat → FieldType := fun k => match k with
  | 0 => .object "java/util/List"
  | _ => .object "java/lang/StringBuilder"
abbrev wsX100 : List Cond := u_ws RX10 TX10 2
theorem nmX10 : ∀ a, a < 2 → ∀ b, b < 2 → a ≠ b → (TX10 a).2.1 ≠ (TX10 b).2.1 := by decide +kernel
theorem tyX10_ok : ∀ k, k < 2 → parseFieldDescriptor (TX10 k).2.2.1 = some (tyX10 k) := by decide +kernel
abbrev cX10_init : ByteArray := prog_4_method_1_code
def yX10_init : MethodName := ⟨RX10, "<init>", "()V"⟩
def dkwX10_init_1 : List UInt8 := [181, 0, 21, 177]
abbrev dktX10_init_1 : List UInt8 := dkwX10_init_1 ++ []
def dkwX10_init_0 : List UInt8 := [42, 183, 0, 1, 42, 187, 0, 7, 89, 5, 183, 0, 9, 181, 0, 12, 42, 187, 0, 18, 89, 183, 0, 20]
abbrev dktX10_init_0 : List UInt8 := dkwX10_init_0 ++ dktX10_init_1
theorem dksX10_init_0 : cX10_init.data.toList.drop 0 = dktX10_init_0 := by decide +kernel
theorem dksX10_init_1 : cX10_init.data.toList.drop 24 = dktX10_init_1 := dk_seg dksX10_init_0 24 rfl rfl
theorem dX10_init_0 : decode cX10_init 0 = .ok (.aload_n 0, 1) := dk_42 (dk_at dksX10_init_0 0 rfl rfl)
theorem dX10_init_1 : decode cX10_init 1 = .ok (.invokespecial 1, 3) := dk_183 0 1 (dk_at dksX10_init_0 1 rfl rfl)
theorem dX10_init_4 : decode cX10_init 4 = .ok (.aload_n 0, 1) := dk_42 (dk_at dksX10_init_0 4 rfl rfl)
theorem dX10_init_5 : decode cX10_init 5 = .ok (.new 7, 3) := dk_187 0 7 (dk_at dksX10_init_0 5 rfl rfl)
theorem dX10_init_8 : decode cX10_init 8 = .ok (.dup, 1) := dk_89 (dk_at dksX10_init_0 8 rfl rfl)
theorem dX10_init_9 : decode cX10_init 9 = .ok (.iconst 2, 1) := dk_5 (dk_at dksX10_init_0 9 rfl rfl)
theorem dX10_init_10 : decode cX10_init 10 = .ok (.invokespecial 9, 3) := dk_183 0 9 (dk_at dksX10_init_0 10 rfl rfl)
theorem dX10_init_13 : decode cX10_init 13 = .ok (.putfield 12, 3) := dk_181 0 12 (dk_at dksX10_init_0 13 rfl rfl)
theorem dX10_init_16 : decode cX10_init 16 = .ok (.aload_n 0, 1) := dk_42 (dk_at dksX10_init_0 16 rfl rfl)
theorem dX10_init_17 : decode cX10_init 17 = .ok (.new 18, 3) := dk_187 0 18 (dk_at dksX10_init_0 17 rfl rfl)
theorem dX10_init_20 : decode cX10_init 20 = .ok (.dup, 1) := dk_89 (dk_at dksX10_init_0 20 rfl rfl)
theorem dX10_init_21 : decode cX10_init 21 = .ok (.invokespecial 20, 3) := dk_183 0 20 (dk_at dksX10_init_0 21 rfl rfl)
theorem dX10_init_24 : decode cX10_init 24 = .ok (.putfield 21, 3) := dk_181 0 21 (dk_at dksX10_init_1 0 rfl rfl)
theorem dX10_init_27 : decode cX10_init 27 = .ok (.return_, 1) := dk_177 (dk_at dksX10_init_1 3 rfl rfl)
abbrev cX10_add : ByteArray := prog_4_method_2_code
def yX10_add : MethodName := ⟨RX10, "add", "(CLBreathTown$Value;)V"⟩
def dkwX10_add_0 : List UInt8 := [42, 180, 0, 21, 27, 182, 0, 25, 87, 42, 180, 0, 12, 44, 185, 0, 29, 2, 0, 87, 177]
abbrev dktX10_add_0 : List UInt8 := dkwX10_add_0 ++ []
theorem dksX10_add_0 : cX10_add.data.toList.drop 0 = dktX10_add_0 := by decide +kernel
theorem dX10_add_0 : decode cX10_add 0 = .ok (.aload_n 0, 1) := dk_42 (dk_at dksX10_add_0 0 rfl rfl)
theorem dX10_add_1 : decode cX10_add 1 = .ok (.getfield 21, 3) := dk_180 0 21 (dk_at dksX10_add_0 1 rfl rfl)
theorem dX10_add_4 : decode cX10_add 4 = .ok (.iload_n 1, 1) := dk_27 (dk_at dksX10_add_0 4 rfl rfl)
theorem dX10_add_5 : decode cX10_add 5 = .ok (.invokevirtual 25, 3) := dk_182 0 25 (dk_at dksX10_add_0 5 rfl rfl)
theorem dX10_add_8 : decode cX10_add 8 = .ok (.pop, 1) := dk_87 (dk_at dksX10_add_0 8 rfl rfl)
theorem dX10_add_9 : decode cX10_add 9 = .ok (.aload_n 0, 1) := dk_42 (dk_at dksX10_add_0 9 rfl rfl)
theorem dX10_add_10 : decode cX10_add 10 = .ok (.getfield 12, 3) := dk_180 0 12 (dk_at dksX10_add_0 10 rfl rfl)
theorem dX10_add_13 : decode cX10_add 13 = .ok (.aload_n 2, 1) := dk_44 (dk_at dksX10_add_0 13 rfl rfl)
theorem dX10_add_14 : decode cX10_add 14 = .ok (.invokeinterface 29 2, 5) := by decide +kernel
theorem dX10_add_19 : decode cX10_add 19 = .ok (.pop, 1) := dk_87 (dk_at dksX10_add_0 19 rfl rfl)
theorem dX10_add_20 : decode cX10_add 20 = .ok (.return_, 1) := dk_177 (dk_at dksX10_add_0 20 rfl rfl)
abbrev cX10_at : ByteArray := prog_4_method_3_code
def yX10_at : MethodName := ⟨RX10, "at", "(LBreathTown$Moment;)J"⟩
def dkwX10_at_3 : List UInt8 := [132, 4, 1, 167, 255, 204, 32, 173]
abbrev dktX10_at_3 : List UInt8 := dkwX10_at_3 ++ []
def dkwX10_at_2 : List UInt8 := [180, 0, 12, 21, 4, 185, 0, 35, 2, 0, 192, 0, 2, 43, 182, 0, 39, 184, 0, 51, 184, 0, 55, 65]
abbrev dktX10_at_2 : List UInt8 := dkwX10_at_2 ++ dktX10_at_3
def dkwX10_at_1 : List UInt8 := [180, 0, 12, 185, 0, 43, 1, 0, 162, 0, 44, 42, 180, 0, 21, 21, 4, 182, 0, 47, 32, 42]
abbrev dktX10_at_1 : List UInt8 := dkwX10_at_1 ++ dktX10_at_2
def dkwX10_at_0 : List UInt8 := [42, 180, 0, 12, 3, 185, 0, 35, 2, 0, 192, 0, 2, 43, 182, 0, 39, 65, 4, 54, 4, 21, 4, 42]
abbrev dktX10_at_0 : List UInt8 := dkwX10_at_0 ++ dktX10_at_1
theorem dksX10_at_0 : cX10_at.data.toList.drop 0 = dktX10_at_0 := by decide +kernel
theorem dksX10_at_1 : cX10_at.data.toList.drop 24 = dktX10_at_1 := dk_seg dksX10_at_0 24 rfl rfl
theorem dksX10_at_2 : cX10_at.data.toList.drop 46 = dktX10_at_2 := dk_seg dksX10_at_1 22 rfl rfl
theorem dksX10_at_3 : cX10_at.data.toList.drop 70 = dktX10_at_3 := dk_seg dksX10_at_2 24 rfl rfl
theorem dX10_at_0 : decode cX10_at 0 = .ok (.aload_n 0, 1) := dk_42 (dk_at dksX10_at_0 0 rfl rfl)
theorem dX10_at_1 : decode cX10_at 1 = .ok (.getfield 12, 3) := dk_180 0 12 (dk_at dksX10_at_0 1 rfl rfl)
theorem dX10_at_4 : decode cX10_at 4 = .ok (.iconst 0, 1) := dk_3 (dk_at dksX10_at_0 4 rfl rfl)
theorem dX10_at_5 : decode cX10_at 5 = .ok (.invokeinterface 35 2, 5) := by decide +kernel
theorem dX10_at_10 : decode cX10_at 10 = .ok (.checkcast 2, 3) := dk_192 0 2 (dk_at dksX10_at_0 10 rfl rfl)
theorem dX10_at_13 : decode cX10_at 13 = .ok (.aload_n 1, 1) := dk_43 (dk_at dksX10_at_0 13 rfl rfl)
theorem dX10_at_14 : decode cX10_at 14 = .ok (.invokevirtual 39, 3) := dk_182 0 39 (dk_at dksX10_at_0 14 rfl rfl)
theorem dX10_at_17 : decode cX10_at 17 = .ok (.lstore_n 2, 1) := dk_65 (dk_at dksX10_at_0 17 rfl rfl)
theorem dX10_at_18 : decode cX10_at 18 = .ok (.iconst 1, 1) := dk_4 (dk_at dksX10_at_0 18 rfl rfl)
theorem dX10_at_19 : decode cX10_at 19 = .ok (.istore 4, 2) := dk_54 4 (dk_at dksX10_at_0 19 rfl rfl)
theorem dX10_at_21 : decode cX10_at 21 = .ok (.iload 4, 2) := dk_21 4 (dk_at dksX10_at_0 21 rfl rfl)
theorem dX10_at_23 : decode cX10_at 23 = .ok (.aload_n 0, 1) := dk_42 (dk_at dksX10_at_0 23 rfl rfl)
theorem dX10_at_24 : decode cX10_at 24 = .ok (.getfield 12, 3) := dk_180 0 12 (dk_at dksX10_at_1 0 rfl rfl)
theorem dX10_at_27 : decode cX10_at 27 = .ok (.invokeinterface 43 1, 5) := by decide +kernel
theorem dX10_at_32 : decode cX10_at 32 = .ok (.if_icmp .ge 44, 3) := dk_162 0 44 (dk_at dksX10_at_1 8 rfl rfl)
theorem dX10_at_35 : decode cX10_at 35 = .ok (.aload_n 0, 1) := dk_42 (dk_at dksX10_at_1 11 rfl rfl)
theorem dX10_at_36 : decode cX10_at 36 = .ok (.getfield 21, 3) := dk_180 0 21 (dk_at dksX10_at_1 12 rfl rfl)
theorem dX10_at_39 : decode cX10_at 39 = .ok (.iload 4, 2) := dk_21 4 (dk_at dksX10_at_1 15 rfl rfl)
theorem dX10_at_41 : decode cX10_at 41 = .ok (.invokevirtual 47, 3) := dk_182 0 47 (dk_at dksX10_at_1 17 rfl rfl)
theorem dX10_at_44 : decode cX10_at 44 = .ok (.lload_n 2, 1) := dk_32 (dk_at dksX10_at_1 20 rfl rfl)
theorem dX10_at_45 : decode cX10_at 45 = .ok (.aload_n 0, 1) := dk_42 (dk_at dksX10_at_1 21 rfl rfl)
theorem dX10_at_46 : decode cX10_at 46 = .ok (.getfield 12, 3) := dk_180 0 12 (dk_at dksX10_at_2 0 rfl rfl)
theorem dX10_at_49 : decode cX10_at 49 = .ok (.iload 4, 2) := dk_21 4 (dk_at dksX10_at_2 3 rfl rfl)
theorem dX10_at_51 : decode cX10_at 51 = .ok (.invokeinterface 35 2, 5) := by decide +kernel
theorem dX10_at_56 : decode cX10_at 56 = .ok (.checkcast 2, 3) := dk_192 0 2 (dk_at dksX10_at_2 10 rfl rfl)
theorem dX10_at_59 : decode cX10_at 59 = .ok (.aload_n 1, 1) := dk_43 (dk_at dksX10_at_2 13 rfl rfl)
theorem dX10_at_60 : decode cX10_at 60 = .ok (.invokevirtual 39, 3) := dk_182 0 39 (dk_at dksX10_at_2 14 rfl rfl)
theorem dX10_at_63 : decode cX10_at 63 = .ok (.invokestatic 51, 3) := dk_184 0 51 (dk_at dksX10_at_2 17 rfl rfl)
theorem dX10_at_66 : decode cX10_at 66 = .ok (.invokestatic 55, 3) := dk_184 0 55 (dk_at dksX10_at_2 20 rfl rfl)
theorem dX10_at_69 : decode cX10_at 69 = .ok (.lstore_n 2, 1) := dk_65 (dk_at dksX10_at_2 23 rfl rfl)
theorem dX10_at_70 : decode cX10_at 70 = .ok (.iinc 4 1, 3) := dk_132 4 1 (dk_at dksX10_at_3 0 rfl rfl)
theorem dX10_at_73 : decode cX10_at 73 = .ok (.goto (-52), 3) := dk_167 255 204 (dk_at dksX10_at_3 3 rfl rfl)
theorem dX10_at_76 : decode cX10_at 76 = .ok (.lload_n 2, 1) := dk_32 (dk_at dksX10_at_3 6 rfl rfl)
theorem dX10_at_77 : decode cX10_at 77 = .ok (.lreturn, 1) := dk_173 (dk_at dksX10_at_3 7 rfl rfl)
abbrev cX10_two : ByteArray := prog_4_method_4_code
def yX10_two : MethodName := ⟨RX10, "two", "(CJJ)J"⟩
def dkwX10_two_3 : List UInt8 := [184, 0, 61, 173]
abbrev dktX10_two_3 : List UInt8 := dkwX10_two_3 ++ []
def dkwX10_two_2 : List UInt8 := [31, 33, 97, 173, 31, 33, 101, 173, 31, 33, 105, 173, 33, 9, 148, 154, 0, 7, 9, 167, 0, 8, 31, 33]
abbrev dktX10_two_2 : List UInt8 := dkwX10_two_2 ++ dktX10_two_3
def dkwX10_two_1 : List UInt8 := [170, 0, 0, 0, 0, 0, 43, 0, 0, 0, 42, 0, 0, 0, 45, 0, 0, 0, 39, 0, 0, 0, 31, 0, 0, 0, 43, 0, 0, 0, 35]
abbrev dktX10_two_1 : List UInt8 := dkwX10_two_1 ++ dktX10_two_2
def dkwX10_two_0 : List UInt8 := [26]
abbrev dktX10_two_0 : List UInt8 := dkwX10_two_0 ++ dktX10_two_1
theorem dksX10_two_0 : cX10_two.data.toList.drop 0 = dktX10_two_0 := by decide +kernel
theorem dksX10_two_1 : cX10_two.data.toList.drop 1 = dktX10_two_1 := dk_seg dksX10_two_0 1 rfl rfl
theorem dksX10_two_2 : cX10_two.data.toList.drop 32 = dktX10_two_2 := dk_seg dksX10_two_1 31 rfl rfl
theorem dksX10_two_3 : cX10_two.data.toList.drop 56 = dktX10_two_3 := dk_seg dksX10_two_2 24 rfl rfl
theorem dX10_two_0 : decode cX10_two 0 = .ok (.iload_n 0, 1) := dk_26 (dk_at dksX10_two_0 0 rfl rfl)
theorem dX10_two_1 : decode cX10_two 1 = .ok (.tableswitch 43 42 45 #[39, 31, 43, 35], 31) := by decide +kernel
theorem dX10_two_32 : decode cX10_two 32 = .ok (.lload_n 1, 1) := dk_31 (dk_at dksX10_two_2 0 rfl rfl)
theorem dX10_two_33 : decode cX10_two 33 = .ok (.lload_n 3, 1) := dk_33 (dk_at dksX10_two_2 1 rfl rfl)
theorem dX10_two_34 : decode cX10_two 34 = .ok (.ladd, 1) := dk_97 (dk_at dksX10_two_2 2 rfl rfl)
theorem dX10_two_35 : decode cX10_two 35 = .ok (.lreturn, 1) := dk_173 (dk_at dksX10_two_2 3 rfl rfl)
theorem dX10_two_36 : decode cX10_two 36 = .ok (.lload_n 1, 1) := dk_31 (dk_at dksX10_two_2 4 rfl rfl)
theorem dX10_two_37 : decode cX10_two 37 = .ok (.lload_n 3, 1) := dk_33 (dk_at dksX10_two_2 5 rfl rfl)
theorem dX10_two_38 : decode cX10_two 38 = .ok (.lsub, 1) := dk_101 (dk_at dksX10_two_2 6 rfl rfl)
theorem dX10_two_39 : decode cX10_two 39 = .ok (.lreturn, 1) := dk_173 (dk_at dksX10_two_2 7 rfl rfl)
theorem dX10_two_40 : decode cX10_two 40 = .ok (.lload_n 1, 1) := dk_31 (dk_at dksX10_two_2 8 rfl rfl)
theorem dX10_two_41 : decode cX10_two 41 = .ok (.lload_n 3, 1) := dk_33 (dk_at dksX10_two_2 9 rfl rfl)
theorem dX10_two_42 : decode cX10_two 42 = .ok (.lmul, 1) := dk_105 (dk_at dksX10_two_2 10 rfl rfl)
theorem dX10_two_43 : decode cX10_two 43 = .ok (.lreturn, 1) := dk_173 (dk_at dksX10_two_2 11 rfl rfl)
theorem dX10_two_44 : decode cX10_two 44 = .ok (.lload_n 3, 1) := dk_33 (dk_at dksX10_two_2 12 rfl rfl)
theorem dX10_two_45 : decode cX10_two 45 = .ok (.lconst 0, 1) := dk_9 (dk_at dksX10_two_2 13 rfl rfl)
theorem dX10_two_46 : decode cX10_two 46 = .ok (.lcmp, 1) := dk_148 (dk_at dksX10_two_2 14 rfl rfl)
theorem dX10_two_47 : decode cX10_two 47 = .ok (.ifCond .ne 7, 3) := dk_154 0 7 (dk_at dksX10_two_2 15 rfl rfl)
theorem dX10_two_50 : decode cX10_two 50 = .ok (.lconst 0, 1) := dk_9 (dk_at dksX10_two_2 18 rfl rfl)
theorem dX10_two_51 : decode cX10_two 51 = .ok (.goto 8, 3) := dk_167 0 8 (dk_at dksX10_two_2 19 rfl rfl)
theorem dX10_two_54 : decode cX10_two 54 = .ok (.lload_n 1, 1) := dk_31 (dk_at dksX10_two_2 22 rfl rfl)
theorem dX10_two_55 : decode cX10_two 55 = .ok (.lload_n 3, 1) := dk_33 (dk_at dksX10_two_2 23 rfl rfl)
theorem dX10_two_56 : decode cX10_two 56 = .ok (.invokestatic 61, 3) := dk_184 0 61 (dk_at dksX10_two_3 0 rfl rfl)
theorem dX10_two_59 : decode cX10_two 59 = .ok (.lreturn, 1) := dk_173 (dk_at dksX10_two_3 3 rfl rfl)
theorem q202 : (Jvm.Cond.initialized "BreathTown$Chain") ∈ lw_all := lw_g (lw_at lw_m1 26 rfl) rfl
theorem q860 : (Jvm.Cond.selects "BreathTown$Chain" ({ cls := "java/lang/Object", name := "getClass", desc := "()Ljava/lang/Class;" } : Jvm.MethodName) ({ cls := "java/lang/Object", name := "getClass", desc := "()Ljava/lang/Class;" } : Jvm.MethodName)) ∈ lw_all := lw_g (lw_at lw_m3 204 rfl) rfl
theorem q934 : (Jvm.Cond.instantiable "BreathTown$Chain" (2 : Nat)) ∈ lw_all := lw_g (lw_at lw_m4 38 rfl) rfl
theorem q936 : (Jvm.Cond.instanceMethod ({ cls := "BreathTown$Chain", name := "<init>", desc := "()V" } : Jvm.MethodName)) ∈ lw_all := lw_g (lw_at lw_m4 40 rfl) rfl
theorem q937 : (Jvm.Cond.code ({ cls := "BreathTown$Chain", name := "<init>", desc := "()V" } : Jvm.MethodName) prog_4_method_1_code (1 : Nat) (Option.none : Option Jvm.ClassFile.FieldType)) ∈ lw_all := lw_g (lw_at lw_m4 41 rfl) rfl
theorem q938 : (Jvm.Cond.methodLinkNest "BreathTown$Chain" (1 : Nat) ({ cls := "BreathTown$Value", name := "<init>", desc := "()V" } : Jvm.MethodName) "BreathTown") ∈ lw_tbl := lw_at lw_m4 42 rfl
theorem q942 : (Jvm.Cond.classLink "BreathTown$Chain" (7 : Nat) "java/util/ArrayList") ∈ lw_all := lw_g (lw_at lw_m4 46 rfl) rfl
theorem q943 : (Jvm.Cond.methodLink "BreathTown$Chain" (9 : Nat) ({ cls := "java/util/ArrayList", name := "<init>", desc := "(I)V" } : Jvm.MethodName)) ∈ lw_all := lw_g (lw_at lw_m4 47 rfl) rfl
theorem q944 : (Jvm.Cond.classLink "BreathTown$Chain" (18 : Nat) "java/lang/StringBuilder") ∈ lw_all := lw_g (lw_at lw_m4 48 rfl) rfl
theorem q946 : (Jvm.Cond.methodLink "BreathTown$Chain" (20 : Nat) ({ cls := "java/lang/StringBuilder", name := "<init>", desc := "()V" } : Jvm.MethodName)) ∈ lw_all := lw_g (lw_at lw_m4 50 rfl) rfl
theorem q967 : (Jvm.Cond.fieldLink "BreathTown$Chain" (12 : Nat) "BreathTown$Chain" "values" "Ljava/util/List;") ∈ lw_all := lw_g (lw_at lw_m4 71 rfl) rfl
theorem q968 : (Jvm.Cond.fieldLink "BreathTown$Chain" (21 : Nat) "BreathTown$Chain" "signs" "Ljava/lang/StringBuilder;") ∈ lw_all := lw_g (lw_at lw_m4 72 rfl) rfl
theorem q969 : (Jvm.Cond.laysFinal "BreathTown$Chain" "BreathTown$Chain" "values" "Ljava/util/List;") ∈ lw_all := lw_g (lw_at lw_m4 73 rfl) rfl
theorem q970 : (Jvm.Cond.soleField "BreathTown$Chain" "values") ∈ lw_all := lw_g (lw_at lw_m4 74 rfl) rfl
theorem q971 : (Jvm.Cond.laysFinal "BreathTown$Chain" "BreathTown$Chain" "signs" "Ljava/lang/StringBuilder;") ∈ lw_all := lw_g (lw_at lw_m4 75 rfl) rfl
theorem q972 : (Jvm.Cond.soleField "BreathTown$Chain" "signs") ∈ lw_all := lw_g (lw_at lw_m4 76 rfl) rfl
theorem q973 : (Jvm.Cond.superclass "BreathTown$Chain" "BreathTown$Value") ∈ lw_all := lw_g (lw_at lw_m4 77 rfl) rfl
theorem q1057 : (Jvm.Cond.instanceMethod ({ cls := "BreathTown$Chain", name := "add", desc := "(CLBreathTown$Value;)V" } : Jvm.MethodName)) ∈ lw_all := lw_g (lw_at lw_m4 161 rfl) rfl
theorem q1058 : (Jvm.Cond.selects "BreathTown$Chain" ({ cls := "BreathTown$Chain", name := "add", desc := "(CLBreathTown$Value;)V" } : Jvm.MethodName) ({ cls := "BreathTown$Chain", name := "add", desc := "(CLBreathTown$Value;)V" } : Jvm.MethodName)) ∈ lw_all := lw_g (lw_at lw_m4 162 rfl) rfl
theorem q1059 : (Jvm.Cond.code ({ cls := "BreathTown$Chain", name := "add", desc := "(CLBreathTown$Value;)V" } : Jvm.MethodName) prog_4_method_2_code (3 : Nat) (Option.none : Option Jvm.ClassFile.FieldType)) ∈ lw_all := lw_g (lw_at lw_m4 163 rfl) rfl
theorem q1060 : (Jvm.Cond.methodLink "BreathTown$Chain" (25 : Nat) ({ cls := "java/lang/StringBuilder", name := "append", desc := "(C)Ljava/lang/StringBuilder;" } : Jvm.MethodName)) ∈ lw_all := lw_g (lw_at lw_m4 164 rfl) rfl
theorem q1115 : (Jvm.Cond.interfaceEntry "BreathTown$Chain" (29 : Nat)) ∈ lw_tbl := lw_at lw_m4 219 rfl
theorem q1116 : (Jvm.Cond.methodLink "BreathTown$Chain" (29 : Nat) ({ cls := "java/util/List", name := "add", desc := "(Ljava/lang/Object;)Z" } : Jvm.MethodName)) ∈ lw_all := lw_g (lw_at lw_m4 220 rfl) rfl
theorem q1247 : (Jvm.Cond.selects "BreathTown$Chain" ({ cls := "BreathTown$Value", name := "at", desc := "(LBreathTown$Moment;)J" } : Jvm.MethodName) ({ cls := "BreathTown$Chain", name := "at", desc := "(LBreathTown$Moment;)J" } : Jvm.MethodName)) ∈ lw_all := lw_g (lw_at lw_m5 111 rfl) rfl
theorem q1248 : (Jvm.Cond.instanceMethod ({ cls := "BreathTown$Chain", name := "at", desc := "(LBreathTown$Moment;)J" } : Jvm.MethodName)) ∈ lw_all := lw_g (lw_at lw_m5 112 rfl) rfl
theorem q1249 : (Jvm.Cond.code ({ cls := "BreathTown$Chain", name := "at", desc := "(LBreathTown$Moment;)J" } : Jvm.MethodName) prog_4_method_3_code (5 : Nat) (Option.some Jvm.ClassFile.FieldType.long)) ∈ lw_all := lw_g (lw_at lw_m5 113 rfl) rfl
theorem q1250 : (Jvm.Cond.interfaceEntry "BreathTown$Chain" (35 : Nat)) ∈ lw_tbl := lw_at lw_m5 114 rfl
theorem q1251 : (Jvm.Cond.methodLink "BreathTown$Chain" (35 : Nat) ({ cls := "java/util/List", name := "get", desc := "(I)Ljava/lang/Object;" } : Jvm.MethodName)) ∈ lw_all := lw_g (lw_at lw_m5 115 rfl) rfl
theorem q1252 : (Jvm.Cond.classLink "BreathTown$Chain" (2 : Nat) "BreathTown$Value") ∈ lw_all := lw_g (lw_at lw_m5 116 rfl) rfl
theorem q1253 : (Jvm.Cond.methodLink "BreathTown$Chain" (39 : Nat) ({ cls := "BreathTown$Value", name := "at", desc := "(LBreathTown$Moment;)J" } : Jvm.MethodName)) ∈ lw_all := lw_g (lw_at lw_m5 117 rfl) rfl
theorem q1277 : (Jvm.Cond.interfaceEntry "BreathTown$Chain" (43 : Nat)) ∈ lw_tbl := lw_at lw_m5 141 rfl
theorem q1278 : (Jvm.Cond.methodLink "BreathTown$Chain" (43 : Nat) ({ cls := "java/util/List", name := "size", desc := "()I" } : Jvm.MethodName)) ∈ lw_all := lw_g (lw_at lw_m5 142 rfl) rfl
theorem q1279 : (Jvm.Cond.methodLink "BreathTown$Chain" (47 : Nat) ({ cls := "java/lang/StringBuilder", name := "charAt", desc := "(I)C" } : Jvm.MethodName)) ∈ lw_all := lw_g (lw_at lw_m5 143 rfl) rfl
theorem q1289 : (Jvm.Cond.methodLink "BreathTown$Chain" (51 : Nat) ({ cls := "BreathTown$Chain", name := "two", desc := "(CJJ)J" } : Jvm.MethodName)) ∈ lw_all := lw_g (lw_at lw_m5 153 rfl) rfl
theorem q1290 : (Jvm.Cond.static ({ cls := "BreathTown$Chain", name := "two", desc := "(CJJ)J" } : Jvm.MethodName)) ∈ lw_all := lw_g (lw_at lw_m5 154 rfl) rfl
theorem q1291 : (Jvm.Cond.code ({ cls := "BreathTown$Chain", name := "two", desc := "(CJJ)J" } : Jvm.MethodName) prog_4_method_4_code (5 : Nat) (Option.some Jvm.ClassFile.FieldType.long)) ∈ lw_all := lw_g (lw_at lw_m5 155 rfl) rfl
theorem q1292 : (Jvm.Cond.methodLink "BreathTown$Chain" (61 : Nat) ({ cls := "java/lang/Math", name := "floorDiv", desc := "(JJ)J" } : Jvm.MethodName)) ∈ lw_all := lw_g (lw_at lw_m5 156 rfl) rfl
theorem q1295 : (Jvm.Cond.methodLinkNest "BreathTown$Chain" (55 : Nat) ({ cls := "BreathTown", name := "held", desc := "(J)J" } : Jvm.MethodName) "BreathTown") ∈ lw_tbl := lw_at lw_m5 159 rfl
theorem q2646 : (Jvm.Cond.castable "BreathTown$Chain" "BreathTown$Value") ∈ lw_tbl := lw_at lw_m11 70 rfl
theorem q2666 : (Jvm.Cond.castable "BreathTown$Chain" "java/lang/Object") ∈ lw_tbl := lw_at lw_m11 90 rfl
theorem in_X10 : ∀ w ∈ wsX100, w ∈ lw_all := lw_in wsX100 [969, 971] (by decide +kernel) (by decide +kernel)
/-! BreathTown$Pair -/
set_option maxRecDepth 100000
def RX11 : String := "BreathTown$Pair"
def TX11 : u_T := fun k => match k with
  | 0 => ("BreathTown$Pair", "most", "Z", true)
  | 1 => ("BreathTown$Pair", "first", "LBreathTown$Value;", true)
  | _ => ("BreathTown$Pair", "second", "LBreathTown$Value;", true)
def tyX11 : Nat → FieldType := fun k => match k with
  | 0 => .boolean
  | 1 => .object "BreathTown$Value"
  | _ => .object "BreathTown$Value"
abbrev wsX110 : List Cond := u_ws RX11 TX11 3
theorem nmX11 : ∀ a, a < 3 → ∀ b, b < 3 → a ≠ b → (TX11 a).2.1 ≠ (TX11 b).2.1 := by decide +kernel
theorem tyX11_ok : ∀ k, k < 3 → parseFieldDescriptor (TX11 k).2.2.1 = some (tyX11 k) := by decide +kernel
abbrev cX11_init : ByteArray := prog_12_method_1_code
def yX11_init : MethodName := ⟨RX11, "<init>", "(ZLBreathTown$Value;LBreathTown$Value;)V"⟩
def dkwX11_init_0 : List UInt8 := [42, 183, 0, 1, 42, 27, 181, 0, 7, 42, 44, 181, 0, 13, 42, 45, 181, 0, 17, 177]
abbrev dktX11_init_0 : List UInt8 := dkwX11_init_0 ++ []
theorem dksX11_init_0 : cX11_init.data.toList.drop 0 = dktX11_init_0 := by decide +kernel
theorem dX11_init_0 : decode cX11_init 0 = .ok (.aload_n 0, 1) := dk_42 (dk_at dksX11_init_0 0 rfl rfl)
theorem dX11_init_1 : decode cX11_init 1 = .ok (.invokespecial 1, 3) := dk_183 0 1 (dk_at dksX11_init_0 1 rfl rfl)
theorem dX11_init_4 : decode cX11_init 4 = .ok (.aload_n 0, 1) := dk_42 (dk_at dksX11_init_0 4 rfl rfl)
theorem dX11_init_5 : decode cX11_init 5 = .ok (.iload_n 1, 1) := dk_27 (dk_at dksX11_init_0 5 rfl rfl)
theorem dX11_init_6 : decode cX11_init 6 = .ok (.putfield 7, 3) := dk_181 0 7 (dk_at dksX11_init_0 6 rfl rfl)
theorem dX11_init_9 : decode cX11_init 9 = .ok (.aload_n 0, 1) := dk_42 (dk_at dksX11_init_0 9 rfl rfl)
theorem dX11_init_10 : decode cX11_init 10 = .ok (.aload_n 2, 1) := dk_44 (dk_at dksX11_init_0 10 rfl rfl)
theorem dX11_init_11 : decode cX11_init 11 = .ok (.putfield 13, 3) := dk_181 0 13 (dk_at dksX11_init_0 11 rfl rfl)
theorem dX11_init_14 : decode cX11_init 14 = .ok (.aload_n 0, 1) := dk_42 (dk_at dksX11_init_0 14 rfl rfl)
theorem dX11_init_15 : decode cX11_init 15 = .ok (.aload_n 3, 1) := dk_45 (dk_at dksX11_init_0 15 rfl rfl)
theorem dX11_init_16 : decode cX11_init 16 = .ok (.putfield 17, 3) := dk_181 0 17 (dk_at dksX11_init_0 16 rfl rfl)
theorem dX11_init_19 : decode cX11_init 19 = .ok (.return_, 1) := dk_177 (dk_at dksX11_init_0 19 rfl rfl)
abbrev cX11_at : ByteArray := prog_12_method_2_code
def yX11_at : MethodName := ⟨RX11, "at", "(LBreathTown$Moment;)J"⟩
def dkwX11_at_1 : List UInt8 := [22, 4, 148, 158, 0, 7, 4, 167, 0, 4, 3, 160, 0, 7, 32, 167, 0, 5, 22, 4, 173]
abbrev dktX11_at_1 : List UInt8 := dkwX11_at_1 ++ []
def dkwX11_at_0 : List UInt8 := [42, 180, 0, 13, 43, 182, 0, 20, 65, 42, 180, 0, 17, 43, 182, 0, 20, 55, 4, 42, 180, 0, 7, 32]
abbrev dktX11_at_0 : List UInt8 := dkwX11_at_0 ++ dktX11_at_1
theorem dksX11_at_0 : cX11_at.data.toList.drop 0 = dktX11_at_0 := by decide +kernel
theorem dksX11_at_1 : cX11_at.data.toList.drop 24 = dktX11_at_1 := dk_seg dksX11_at_0 24 rfl rfl
theorem dX11_at_0 : decode cX11_at 0 = .ok (.aload_n 0, 1) := dk_42 (dk_at dksX11_at_0 0 rfl rfl)
theorem dX11_at_1 : decode cX11_at 1 = .ok (.getfield 13, 3) := dk_180 0 13 (dk_at dksX11_at_0 1 rfl rfl)
theorem dX11_at_4 : decode cX11_at 4 = .ok (.aload_n 1, 1) := dk_43 (dk_at dksX11_at_0 4 rfl rfl)
theorem dX11_at_5 : decode cX11_at 5 = .ok (.invokevirtual 20, 3) := dk_182 0 20 (dk_at dksX11_at_0 5 rfl rfl)
theorem dX11_at_8 : decode cX11_at 8 = .ok (.lstore_n 2, 1) := dk_65 (dk_at dksX11_at_0 8 rfl rfl)
theorem dX11_at_9 : decode cX11_at 9 = .ok (.aload_n 0, 1) := dk_42 (dk_at dksX11_at_0 9 rfl rfl)
theorem dX11_at_10 : decode cX11_at 10 = .ok (.getfield 17, 3) := dk_180 0 17 (dk_at dksX11_at_0 10 rfl rfl)
theorem dX11_at_13 : decode cX11_at 13 = .ok (.aload_n 1, 1) := dk_43 (dk_at dksX11_at_0 13 rfl rfl)
theorem dX11_at_14 : decode cX11_at 14 = .ok (.invokevirtual 20, 3) := dk_182 0 20 (dk_at dksX11_at_0 14 rfl rfl)
theorem dX11_at_17 : decode cX11_at 17 = .ok (.lstore 4, 2) := dk_55 4 (dk_at dksX11_at_0 17 rfl rfl)
theorem dX11_at_19 : decode cX11_at 19 = .ok (.aload_n 0, 1) := dk_42 (dk_at dksX11_at_0 19 rfl rfl)
theorem dX11_at_20 : decode cX11_at 20 = .ok (.getfield 7, 3) := dk_180 0 7 (dk_at dksX11_at_0 20 rfl rfl)
theorem dX11_at_23 : decode cX11_at 23 = .ok (.lload_n 2, 1) := dk_32 (dk_at dksX11_at_0 23 rfl rfl)
theorem dX11_at_24 : decode cX11_at 24 = .ok (.lload 4, 2) := dk_22 4 (dk_at dksX11_at_1 0 rfl rfl)
theorem dX11_at_26 : decode cX11_at 26 = .ok (.lcmp, 1) := dk_148 (dk_at dksX11_at_1 2 rfl rfl)
theorem dX11_at_27 : decode cX11_at 27 = .ok (.ifCond .le 7, 3) := dk_158 0 7 (dk_at dksX11_at_1 3 rfl rfl)
theorem dX11_at_30 : decode cX11_at 30 = .ok (.iconst 1, 1) := dk_4 (dk_at dksX11_at_1 6 rfl rfl)
theorem dX11_at_31 : decode cX11_at 31 = .ok (.goto 4, 3) := dk_167 0 4 (dk_at dksX11_at_1 7 rfl rfl)
theorem dX11_at_34 : decode cX11_at 34 = .ok (.iconst 0, 1) := dk_3 (dk_at dksX11_at_1 10 rfl rfl)
theorem dX11_at_35 : decode cX11_at 35 = .ok (.if_icmp .ne 7, 3) := dk_160 0 7 (dk_at dksX11_at_1 11 rfl rfl)
theorem dX11_at_38 : decode cX11_at 38 = .ok (.lload_n 2, 1) := dk_32 (dk_at dksX11_at_1 14 rfl rfl)
theorem dX11_at_39 : decode cX11_at 39 = .ok (.goto 5, 3) := dk_167 0 5 (dk_at dksX11_at_1 15 rfl rfl)
theorem dX11_at_42 : decode cX11_at 42 = .ok (.lload 4, 2) := dk_22 4 (dk_at dksX11_at_1 18 rfl rfl)
theorem dX11_at_44 : decode cX11_at 44 = .ok (.lreturn, 1) := dk_173 (dk_at dksX11_at_1 20 rfl rfl)
theorem q205 : (Jvm.Cond.initialized "BreathTown$Pair") ∈ lw_all := lw_g (lw_at lw_m1 29 rfl) rfl
theorem q868 : (Jvm.Cond.selects "BreathTown$Pair" ({ cls := "java/lang/Object", name := "getClass", desc := "()Ljava/lang/Class;" } : Jvm.MethodName) ({ cls := "java/lang/Object", name := "getClass", desc := "()Ljava/lang/Class;" } : Jvm.MethodName)) ∈ lw_all := lw_g (lw_at lw_m3 212 rfl) rfl
theorem q995 : (Jvm.Cond.instantiable "BreathTown$Pair" (3 : Nat)) ∈ lw_all := lw_g (lw_at lw_m4 99 rfl) rfl
theorem q997 : (Jvm.Cond.instanceMethod ({ cls := "BreathTown$Pair", name := "<init>", desc := "(ZLBreathTown$Value;LBreathTown$Value;)V" } : Jvm.MethodName)) ∈ lw_all := lw_g (lw_at lw_m4 101 rfl) rfl
theorem q998 : (Jvm.Cond.code ({ cls := "BreathTown$Pair", name := "<init>", desc := "(ZLBreathTown$Value;LBreathTown$Value;)V" } : Jvm.MethodName) prog_12_method_1_code (4 : Nat) (Option.none : Option Jvm.ClassFile.FieldType)) ∈ lw_all := lw_g (lw_at lw_m4 102 rfl) rfl
theorem q999 : (Jvm.Cond.methodLinkNest "BreathTown$Pair" (1 : Nat) ({ cls := "BreathTown$Value", name := "<init>", desc := "()V" } : Jvm.MethodName) "BreathTown") ∈ lw_tbl := lw_at lw_m4 103 rfl
theorem q1000 : (Jvm.Cond.fieldLink "BreathTown$Pair" (7 : Nat) "BreathTown$Pair" "most" "Z") ∈ lw_all := lw_g (lw_at lw_m4 104 rfl) rfl
theorem q1001 : (Jvm.Cond.fieldLink "BreathTown$Pair" (13 : Nat) "BreathTown$Pair" "first" "LBreathTown$Value;") ∈ lw_all := lw_g (lw_at lw_m4 105 rfl) rfl
theorem q1002 : (Jvm.Cond.fieldLink "BreathTown$Pair" (17 : Nat) "BreathTown$Pair" "second" "LBreathTown$Value;") ∈ lw_all := lw_g (lw_at lw_m4 106 rfl) rfl
theorem q1003 : (Jvm.Cond.laysFinal "BreathTown$Pair" "BreathTown$Pair" "most" "Z") ∈ lw_all := lw_g (lw_at lw_m4 107 rfl) rfl
theorem q1004 : (Jvm.Cond.soleField "BreathTown$Pair" "most") ∈ lw_all := lw_g (lw_at lw_m4 108 rfl) rfl
theorem q1005 : (Jvm.Cond.laysFinal "BreathTown$Pair" "BreathTown$Pair" "first" "LBreathTown$Value;") ∈ lw_all := lw_g (lw_at lw_m4 109 rfl) rfl
theorem q1006 : (Jvm.Cond.soleField "BreathTown$Pair" "first") ∈ lw_all := lw_g (lw_at lw_m4 110 rfl) rfl
theorem q1007 : (Jvm.Cond.laysFinal "BreathTown$Pair" "BreathTown$Pair" "second" "LBreathTown$Value;") ∈ lw_all := lw_g (lw_at lw_m4 111 rfl) rfl
theorem q1008 : (Jvm.Cond.soleField "BreathTown$Pair" "second") ∈ lw_all := lw_g (lw_at lw_m4 112 rfl) rfl
theorem q1009 : (Jvm.Cond.superclass "BreathTown$Pair" "BreathTown$Value") ∈ lw_all := lw_g (lw_at lw_m4 113 rfl) rfl
theorem q1259 : (Jvm.Cond.instanceMethod ({ cls := "BreathTown$Pair", name := "at", desc := "(LBreathTown$Moment;)J" } : Jvm.MethodName)) ∈ lw_all := lw_g (lw_at lw_m5 123 rfl) rfl
theorem q1260 : (Jvm.Cond.code ({ cls := "BreathTown$Pair", name := "at", desc := "(LBreathTown$Moment;)J" } : Jvm.MethodName) prog_12_method_2_code (6 : Nat) (Option.some Jvm.ClassFile.FieldType.long)) ∈ lw_all := lw_g (lw_at lw_m5 124 rfl) rfl
theorem q1261 : (Jvm.Cond.methodLink "BreathTown$Pair" (20 : Nat) ({ cls := "BreathTown$Value", name := "at", desc := "(LBreathTown$Moment;)J" } : Jvm.MethodName)) ∈ lw_all := lw_g (lw_at lw_m5 125 rfl) rfl
theorem q1298 : (Jvm.Cond.selects "BreathTown$Pair" ({ cls := "BreathTown$Value", name := "at", desc := "(LBreathTown$Moment;)J" } : Jvm.MethodName) ({ cls := "BreathTown$Pair", name := "at", desc := "(LBreathTown$Moment;)J" } : Jvm.MethodName)) ∈ lw_all := lw_g (lw_at lw_m5 162 rfl) rfl
theorem q2649 : (Jvm.Cond.castable "BreathTown$Pair" "BreathTown$Value") ∈ lw_tbl := lw_at lw_m11 73 rfl
theorem q2668 : (Jvm.Cond.castable "BreathTown$Pair" "java/lang/Object") ∈ lw_tbl := lw_at lw_m11 92 rfl
theorem in_X11 : ∀ w ∈ wsX110, w ∈ lw_all := lw_in wsX110 [1003, 1005, 1007] (by decide +kernel) (by decide +kernel)
/-! BreathTown$Fixed -/
set_option maxRecDepth 100000
def RX12 : String := "BreathTown$Fixed"
def TX12 : u_T := fun k => match k with
  | _ => ("BreathTown$Fixed", "value", "J", true)
def tyX12 : Nat → FieldType := fun k => match k with
  | _ => .long
abbrev wsX120 : List Cond := u_ws RX12 TX12 1
theorem nmX12 : ∀ a, a < 1 → ∀ b, b < 1 → a ≠ b → (TX12 a).2.1 ≠ (TX12 b).2.1 := by decide +kernel
theorem tyX12_ok : ∀ k, k < 1 → parseFieldDescriptor (TX12 k).2.2.1 = some (tyX12 k) := by decide +kernel
abbrev cX12_init : ByteArray := prog_7_method_1_code
def yX12_init : MethodName := ⟨RX12, "<init>", "(J)V"⟩
def dkwX12_init_0 : List UInt8 := [42, 183, 0, 1, 42, 31, 181, 0, 7, 177]
abbrev dktX12_init_0 : List UInt8 := dkwX12_init_0 ++ []
theorem dksX12_init_0 : cX12_init.data.toList.drop 0 = dktX12_init_0 := by decide +kernel
theorem dX12_init_0 : decode cX12_init 0 = .ok (.aload_n 0, 1) := dk_42 (dk_at dksX12_init_0 0 rfl rfl)
theorem dX12_init_1 : decode cX12_init 1 = .ok (.invokespecial 1, 3) := dk_183 0 1 (dk_at dksX12_init_0 1 rfl rfl)
theorem dX12_init_4 : decode cX12_init 4 = .ok (.aload_n 0, 1) := dk_42 (dk_at dksX12_init_0 4 rfl rfl)
theorem dX12_init_5 : decode cX12_init 5 = .ok (.lload_n 1, 1) := dk_31 (dk_at dksX12_init_0 5 rfl rfl)
theorem dX12_init_6 : decode cX12_init 6 = .ok (.putfield 7, 3) := dk_181 0 7 (dk_at dksX12_init_0 6 rfl rfl)
theorem dX12_init_9 : decode cX12_init 9 = .ok (.return_, 1) := dk_177 (dk_at dksX12_init_0 9 rfl rfl)
abbrev cX12_at : ByteArray := prog_7_method_2_code
def yX12_at : MethodName := ⟨RX12, "at", "(LBreathTown$Moment;)J"⟩
theorem dX12_at_0 : decode cX12_at 0 = .ok (.aload_n 0, 1) := by decide +kernel
theorem dX12_at_1 : decode cX12_at 1 = .ok (.getfield 7, 3) := by decide +kernel
theorem dX12_at_4 : decode cX12_at 4 = .ok (.lreturn, 1) := by decide +kernel
theorem q206 : (Jvm.Cond.initialized "BreathTown$Fixed") ∈ lw_all := lw_g (lw_at lw_m1 30 rfl) rfl
theorem q863 : (Jvm.Cond.selects "BreathTown$Fixed" ({ cls := "java/lang/Object", name := "getClass", desc := "()Ljava/lang/Class;" } : Jvm.MethodName) ({ cls := "java/lang/Object", name := "getClass", desc := "()Ljava/lang/Class;" } : Jvm.MethodName)) ∈ lw_all := lw_g (lw_at lw_m3 207 rfl) rfl
theorem q1011 : (Jvm.Cond.instantiable "BreathTown$Fixed" (1 : Nat)) ∈ lw_all := lw_g (lw_at lw_m4 115 rfl) rfl
theorem q1013 : (Jvm.Cond.instanceMethod ({ cls := "BreathTown$Fixed", name := "<init>", desc := "(J)V" } : Jvm.MethodName)) ∈ lw_all := lw_g (lw_at lw_m4 117 rfl) rfl
theorem q1014 : (Jvm.Cond.code ({ cls := "BreathTown$Fixed", name := "<init>", desc := "(J)V" } : Jvm.MethodName) prog_7_method_1_code (3 : Nat) (Option.none : Option Jvm.ClassFile.FieldType)) ∈ lw_all := lw_g (lw_at lw_m4 118 rfl) rfl
theorem q1015 : (Jvm.Cond.methodLinkNest "BreathTown$Fixed" (1 : Nat) ({ cls := "BreathTown$Value", name := "<init>", desc := "()V" } : Jvm.MethodName) "BreathTown") ∈ lw_tbl := lw_at lw_m4 119 rfl
theorem q1016 : (Jvm.Cond.fieldLink "BreathTown$Fixed" (7 : Nat) "BreathTown$Fixed" "value" "J") ∈ lw_all := lw_g (lw_at lw_m4 120 rfl) rfl
theorem q1017 : (Jvm.Cond.laysFinal "BreathTown$Fixed" "BreathTown$Fixed" "value" "J") ∈ lw_all := lw_g (lw_at lw_m4 121 rfl) rfl
theorem q1018 : (Jvm.Cond.soleField "BreathTown$Fixed" "value") ∈ lw_all := lw_g (lw_at lw_m4 122 rfl) rfl
theorem q1019 : (Jvm.Cond.superclass "BreathTown$Fixed" "BreathTown$Value") ∈ lw_all := lw_g (lw_at lw_m4 123 rfl) rfl
theorem q1254 : (Jvm.Cond.instanceMethod ({ cls := "BreathTown$Fixed", name := "at", desc := "(LBreathTown$Moment;)J" } : Jvm.MethodName)) ∈ lw_all := lw_g (lw_at lw_m5 118 rfl) rfl
theorem q1255 : (Jvm.Cond.code ({ cls := "BreathTown$Fixed", name := "at", desc := "(LBreathTown$Moment;)J" } : Jvm.MethodName) prog_7_method_2_code (2 : Nat) (Option.some Jvm.ClassFile.FieldType.long)) ∈ lw_all := lw_g (lw_at lw_m5 119 rfl) rfl
theorem q1296 : (Jvm.Cond.selects "BreathTown$Fixed" ({ cls := "BreathTown$Value", name := "at", desc := "(LBreathTown$Moment;)J" } : Jvm.MethodName) ({ cls := "BreathTown$Fixed", name := "at", desc := "(LBreathTown$Moment;)J" } : Jvm.MethodName)) ∈ lw_all := lw_g (lw_at lw_m5 160 rfl) rfl
theorem q2647 : (Jvm.Cond.castable "BreathTown$Fixed" "BreathTown$Value") ∈ lw_tbl := lw_at lw_m11 71 rfl
theorem q2669 : (Jvm.Cond.castable "BreathTown$Fixed" "java/lang/Object") ∈ lw_tbl := lw_at lw_m11 93 rfl
theorem in_X12 : ∀ w ∈ wsX120, w ∈ lw_all := lw_in wsX120 [1017] (by decide +kernel) (by decide +kernel)
/-! BreathTown$Asked -/
set_option maxRecDepth 100000
def RX13 : String := "BreathTown$Asked"
def TX13 : u_T := fun k => match k with
  | _ => ("BreathTown$Asked", "what", "I", true)
def tyX13 : Nat → FieldType := fun k => match k with
  | _ => .int
abbrev wsX130 : List Cond := u_ws RX13 TX13 1
theorem nmX13 : ∀ a, a < 1 → ∀ b, b < 1 → a ≠ b → (TX13 a).2.1 ≠ (TX13 b).2.1 := by decide +kernel
theorem tyX13_ok : ∀ k, k < 1 → parseFieldDescriptor (TX13 k).2.2.1 = some (tyX13 k) := by decide +kernel
abbrev cX13_init : ByteArray := prog_3_method_1_code
def yX13_init : MethodName := ⟨RX13, "<init>", "(I)V"⟩
def dkwX13_init_0 : List UInt8 := [42, 183, 0, 1, 42, 27, 181, 0, 7, 177]
abbrev dktX13_init_0 : List UInt8 := dkwX13_init_0 ++ []
theorem dksX13_init_0 : cX13_init.data.toList.drop 0 = dktX13_init_0 := by decide +kernel
theorem dX13_init_0 : decode cX13_init 0 = .ok (.aload_n 0, 1) := dk_42 (dk_at dksX13_init_0 0 rfl rfl)
theorem dX13_init_1 : decode cX13_init 1 = .ok (.invokespecial 1, 3) := dk_183 0 1 (dk_at dksX13_init_0 1 rfl rfl)
theorem dX13_init_4 : decode cX13_init 4 = .ok (.aload_n 0, 1) := dk_42 (dk_at dksX13_init_0 4 rfl rfl)
theorem dX13_init_5 : decode cX13_init 5 = .ok (.iload_n 1, 1) := dk_27 (dk_at dksX13_init_0 5 rfl rfl)
theorem dX13_init_6 : decode cX13_init 6 = .ok (.putfield 7, 3) := dk_181 0 7 (dk_at dksX13_init_0 6 rfl rfl)
theorem dX13_init_9 : decode cX13_init 9 = .ok (.return_, 1) := dk_177 (dk_at dksX13_init_0 9 rfl rfl)
abbrev cX13_at : ByteArray := prog_3_method_2_code
def yX13_at : MethodName := ⟨RX13, "at", "(LBreathTown$Moment;)J"⟩
def dkwX13_at_0 : List UInt8 := [43, 180, 0, 13, 42, 180, 0, 7, 47, 184, 0, 19, 173]
abbrev dktX13_at_0 : List UInt8 := dkwX13_at_0 ++ []
theorem dksX13_at_0 : cX13_at.data.toList.drop 0 = dktX13_at_0 := by decide +kernel
theorem dX13_at_0 : decode cX13_at 0 = .ok (.aload_n 1, 1) := dk_43 (dk_at dksX13_at_0 0 rfl rfl)
theorem dX13_at_1 : decode cX13_at 1 = .ok (.getfield 13, 3) := dk_180 0 13 (dk_at dksX13_at_0 1 rfl rfl)
theorem dX13_at_4 : decode cX13_at 4 = .ok (.aload_n 0, 1) := dk_42 (dk_at dksX13_at_0 4 rfl rfl)
theorem dX13_at_5 : decode cX13_at 5 = .ok (.getfield 7, 3) := dk_180 0 7 (dk_at dksX13_at_0 5 rfl rfl)
theorem dX13_at_8 : decode cX13_at 8 = .ok (.laload, 1) := dk_47 (dk_at dksX13_at_0 8 rfl rfl)
theorem dX13_at_9 : decode cX13_at 9 = .ok (.invokestatic 19, 3) := dk_184 0 19 (dk_at dksX13_at_0 9 rfl rfl)
theorem dX13_at_12 : decode cX13_at 12 = .ok (.lreturn, 1) := dk_173 (dk_at dksX13_at_0 12 rfl rfl)
theorem q207 : (Jvm.Cond.initialized "BreathTown$Asked") ∈ lw_all := lw_g (lw_at lw_m1 31 rfl) rfl
theorem q394 : (Jvm.Cond.fieldLinkNest "BreathTown$Asked" (13 : Nat) "BreathTown$Moment" "of" "[J" "BreathTown") ∈ lw_tbl := lw_at lw_m1 218 rfl
theorem q859 : (Jvm.Cond.selects "BreathTown$Asked" ({ cls := "java/lang/Object", name := "getClass", desc := "()Ljava/lang/Class;" } : Jvm.MethodName) ({ cls := "java/lang/Object", name := "getClass", desc := "()Ljava/lang/Class;" } : Jvm.MethodName)) ∈ lw_all := lw_g (lw_at lw_m3 203 rfl) rfl
theorem q1023 : (Jvm.Cond.instantiable "BreathTown$Asked" (1 : Nat)) ∈ lw_all := lw_g (lw_at lw_m4 127 rfl) rfl
theorem q1025 : (Jvm.Cond.instanceMethod ({ cls := "BreathTown$Asked", name := "<init>", desc := "(I)V" } : Jvm.MethodName)) ∈ lw_all := lw_g (lw_at lw_m4 129 rfl) rfl
theorem q1026 : (Jvm.Cond.code ({ cls := "BreathTown$Asked", name := "<init>", desc := "(I)V" } : Jvm.MethodName) prog_3_method_1_code (2 : Nat) (Option.none : Option Jvm.ClassFile.FieldType)) ∈ lw_all := lw_g (lw_at lw_m4 130 rfl) rfl
theorem q1027 : (Jvm.Cond.methodLinkNest "BreathTown$Asked" (1 : Nat) ({ cls := "BreathTown$Value", name := "<init>", desc := "()V" } : Jvm.MethodName) "BreathTown") ∈ lw_tbl := lw_at lw_m4 131 rfl
theorem q1028 : (Jvm.Cond.fieldLink "BreathTown$Asked" (7 : Nat) "BreathTown$Asked" "what" "I") ∈ lw_all := lw_g (lw_at lw_m4 132 rfl) rfl
theorem q1029 : (Jvm.Cond.laysFinal "BreathTown$Asked" "BreathTown$Asked" "what" "I") ∈ lw_all := lw_g (lw_at lw_m4 133 rfl) rfl
theorem q1030 : (Jvm.Cond.soleField "BreathTown$Asked" "what") ∈ lw_all := lw_g (lw_at lw_m4 134 rfl) rfl
theorem q1031 : (Jvm.Cond.superclass "BreathTown$Asked" "BreathTown$Value") ∈ lw_all := lw_g (lw_at lw_m4 135 rfl) rfl
theorem q1233 : (Jvm.Cond.selects "BreathTown$Asked" ({ cls := "BreathTown$Value", name := "at", desc := "(LBreathTown$Moment;)J" } : Jvm.MethodName) ({ cls := "BreathTown$Asked", name := "at", desc := "(LBreathTown$Moment;)J" } : Jvm.MethodName)) ∈ lw_all := lw_g (lw_at lw_m5 97 rfl) rfl
theorem q1234 : (Jvm.Cond.instanceMethod ({ cls := "BreathTown$Asked", name := "at", desc := "(LBreathTown$Moment;)J" } : Jvm.MethodName)) ∈ lw_all := lw_g (lw_at lw_m5 98 rfl) rfl
theorem q1235 : (Jvm.Cond.code ({ cls := "BreathTown$Asked", name := "at", desc := "(LBreathTown$Moment;)J" } : Jvm.MethodName) prog_3_method_2_code (2 : Nat) (Option.some Jvm.ClassFile.FieldType.long)) ∈ lw_all := lw_g (lw_at lw_m5 99 rfl) rfl
theorem q1236 : (Jvm.Cond.methodLinkNest "BreathTown$Asked" (19 : Nat) ({ cls := "BreathTown", name := "held", desc := "(J)J" } : Jvm.MethodName) "BreathTown") ∈ lw_tbl := lw_at lw_m5 100 rfl
theorem q2645 : (Jvm.Cond.castable "BreathTown$Asked" "BreathTown$Value") ∈ lw_tbl := lw_at lw_m11 69 rfl
theorem q2670 : (Jvm.Cond.castable "BreathTown$Asked" "java/lang/Object") ∈ lw_tbl := lw_at lw_m11 94 rfl
theorem in_X13 : ∀ w ∈ wsX130, w ∈ lw_all := lw_in wsX130 [1029] (by decide +kernel) (by decide +kernel)
/-! BreathTown$Looked -/
set_option maxRecDepth 100000
def RX14 : String := "BreathTown$Looked"
def TX14 : u_T := fun k => match k with
  | 0 => ("BreathTown$Looked", "what", "I", true)
  | 1 => ("BreathTown$Looked", "of", "LBreathTown$Value;", true)
  | _ => ("BreathTown$Looked", "this$0", "LBreathTown;", true)
def tyX14 : Nat → FieldType := fun k => match k with
  | 0 => .int
  | 1 => .object "BreathTown$Value"
  | _ => .object "BreathTown"
abbrev wsX140 : List Cond := u_ws RX14 TX14 3
theorem nmX14 : ∀ a, a < 3 → ∀ b, b < 3 → a ≠ b → (TX14 a).2.1 ≠ (TX14 b).2.1 := by decide +kernel
theorem tyX14_ok : ∀ k, k < 3 → parseFieldDescriptor (TX14 k).2.2.1 = some (tyX14 k) := by decide +kernel
abbrev cX14_init : ByteArray := prog_8_method_1_code
def yX14_init : MethodName := ⟨RX14, "<init>", "(LBreathTown;ILBreathTown$Value;)V"⟩
def dkwX14_init_0 : List UInt8 := [42, 43, 181, 0, 1, 42, 183, 0, 7, 42, 28, 181, 0, 13, 42, 45, 181, 0, 17, 177]
abbrev dktX14_init_0 : List UInt8 := dkwX14_init_0 ++ []
theorem dksX14_init_0 : cX14_init.data.toList.drop 0 = dktX14_init_0 := by decide +kernel
theorem dX14_init_0 : decode cX14_init 0 = .ok (.aload_n 0, 1) := dk_42 (dk_at dksX14_init_0 0 rfl rfl)
theorem dX14_init_1 : decode cX14_init 1 = .ok (.aload_n 1, 1) := dk_43 (dk_at dksX14_init_0 1 rfl rfl)
theorem dX14_init_2 : decode cX14_init 2 = .ok (.putfield 1, 3) := dk_181 0 1 (dk_at dksX14_init_0 2 rfl rfl)
theorem dX14_init_5 : decode cX14_init 5 = .ok (.aload_n 0, 1) := dk_42 (dk_at dksX14_init_0 5 rfl rfl)
theorem dX14_init_6 : decode cX14_init 6 = .ok (.invokespecial 7, 3) := dk_183 0 7 (dk_at dksX14_init_0 6 rfl rfl)
theorem dX14_init_9 : decode cX14_init 9 = .ok (.aload_n 0, 1) := dk_42 (dk_at dksX14_init_0 9 rfl rfl)
theorem dX14_init_10 : decode cX14_init 10 = .ok (.iload_n 2, 1) := dk_28 (dk_at dksX14_init_0 10 rfl rfl)
theorem dX14_init_11 : decode cX14_init 11 = .ok (.putfield 13, 3) := dk_181 0 13 (dk_at dksX14_init_0 11 rfl rfl)
theorem dX14_init_14 : decode cX14_init 14 = .ok (.aload_n 0, 1) := dk_42 (dk_at dksX14_init_0 14 rfl rfl)
theorem dX14_init_15 : decode cX14_init 15 = .ok (.aload_n 3, 1) := dk_45 (dk_at dksX14_init_0 15 rfl rfl)
theorem dX14_init_16 : decode cX14_init 16 = .ok (.putfield 17, 3) := dk_181 0 17 (dk_at dksX14_init_0 16 rfl rfl)
theorem dX14_init_19 : decode cX14_init 19 = .ok (.return_, 1) := dk_177 (dk_at dksX14_init_0 19 rfl rfl)
abbrev cX14_at : ByteArray := prog_8_method_2_code
def yX14_at : MethodName := ⟨RX14, "at", "(LBreathTown$Moment;)J"⟩
def dkwX14_at_0 : List UInt8 := [42, 180, 0, 1, 42, 180, 0, 13, 42, 180, 0, 17, 43, 182, 0, 21, 182, 0, 25, 184, 0, 31, 173]
abbrev dktX14_at_0 : List UInt8 := dkwX14_at_0 ++ []
theorem dksX14_at_0 : cX14_at.data.toList.drop 0 = dktX14_at_0 := by decide +kernel
theorem dX14_at_0 : decode cX14_at 0 = .ok (.aload_n 0, 1) := dk_42 (dk_at dksX14_at_0 0 rfl rfl)
theorem dX14_at_1 : decode cX14_at 1 = .ok (.getfield 1, 3) := dk_180 0 1 (dk_at dksX14_at_0 1 rfl rfl)
theorem dX14_at_4 : decode cX14_at 4 = .ok (.aload_n 0, 1) := dk_42 (dk_at dksX14_at_0 4 rfl rfl)
theorem dX14_at_5 : decode cX14_at 5 = .ok (.getfield 13, 3) := dk_180 0 13 (dk_at dksX14_at_0 5 rfl rfl)
theorem dX14_at_8 : decode cX14_at 8 = .ok (.aload_n 0, 1) := dk_42 (dk_at dksX14_at_0 8 rfl rfl)
theorem dX14_at_9 : decode cX14_at 9 = .ok (.getfield 17, 3) := dk_180 0 17 (dk_at dksX14_at_0 9 rfl rfl)
theorem dX14_at_12 : decode cX14_at 12 = .ok (.aload_n 1, 1) := dk_43 (dk_at dksX14_at_0 12 rfl rfl)
theorem dX14_at_13 : decode cX14_at 13 = .ok (.invokevirtual 21, 3) := dk_182 0 21 (dk_at dksX14_at_0 13 rfl rfl)
theorem dX14_at_16 : decode cX14_at 16 = .ok (.invokevirtual 25, 3) := dk_182 0 25 (dk_at dksX14_at_0 16 rfl rfl)
theorem dX14_at_19 : decode cX14_at 19 = .ok (.invokestatic 31, 3) := dk_184 0 31 (dk_at dksX14_at_0 19 rfl rfl)
theorem dX14_at_22 : decode cX14_at 22 = .ok (.lreturn, 1) := dk_173 (dk_at dksX14_at_0 22 rfl rfl)
theorem q208 : (Jvm.Cond.initialized "BreathTown$Looked") ∈ lw_all := lw_g (lw_at lw_m1 32 rfl) rfl
theorem q864 : (Jvm.Cond.selects "BreathTown$Looked" ({ cls := "java/lang/Object", name := "getClass", desc := "()Ljava/lang/Class;" } : Jvm.MethodName) ({ cls := "java/lang/Object", name := "getClass", desc := "()Ljava/lang/Class;" } : Jvm.MethodName)) ∈ lw_all := lw_g (lw_at lw_m3 208 rfl) rfl
theorem q1039 : (Jvm.Cond.instantiable "BreathTown$Looked" (3 : Nat)) ∈ lw_all := lw_g (lw_at lw_m4 143 rfl) rfl
theorem q1041 : (Jvm.Cond.instanceMethod ({ cls := "BreathTown$Looked", name := "<init>", desc := "(LBreathTown;ILBreathTown$Value;)V" } : Jvm.MethodName)) ∈ lw_all := lw_g (lw_at lw_m4 145 rfl) rfl
theorem q1042 : (Jvm.Cond.code ({ cls := "BreathTown$Looked", name := "<init>", desc := "(LBreathTown;ILBreathTown$Value;)V" } : Jvm.MethodName) prog_8_method_1_code (4 : Nat) (Option.none : Option Jvm.ClassFile.FieldType)) ∈ lw_all := lw_g (lw_at lw_m4 146 rfl) rfl
theorem q1043 : (Jvm.Cond.methodLinkNest "BreathTown$Looked" (7 : Nat) ({ cls := "BreathTown$Value", name := "<init>", desc := "()V" } : Jvm.MethodName) "BreathTown") ∈ lw_tbl := lw_at lw_m4 147 rfl
theorem q1044 : (Jvm.Cond.fieldLink "BreathTown$Looked" (13 : Nat) "BreathTown$Looked" "what" "I") ∈ lw_all := lw_g (lw_at lw_m4 148 rfl) rfl
theorem q1045 : (Jvm.Cond.fieldLink "BreathTown$Looked" (17 : Nat) "BreathTown$Looked" "of" "LBreathTown$Value;") ∈ lw_all := lw_g (lw_at lw_m4 149 rfl) rfl
theorem q1046 : (Jvm.Cond.fieldLink "BreathTown$Looked" (1 : Nat) "BreathTown$Looked" "this$0" "LBreathTown;") ∈ lw_all := lw_g (lw_at lw_m4 150 rfl) rfl
theorem q1047 : (Jvm.Cond.laysFinal "BreathTown$Looked" "BreathTown$Looked" "what" "I") ∈ lw_all := lw_g (lw_at lw_m4 151 rfl) rfl
theorem q1048 : (Jvm.Cond.soleField "BreathTown$Looked" "what") ∈ lw_all := lw_g (lw_at lw_m4 152 rfl) rfl
theorem q1049 : (Jvm.Cond.laysFinal "BreathTown$Looked" "BreathTown$Looked" "of" "LBreathTown$Value;") ∈ lw_all := lw_g (lw_at lw_m4 153 rfl) rfl
theorem q1050 : (Jvm.Cond.soleField "BreathTown$Looked" "of") ∈ lw_all := lw_g (lw_at lw_m4 154 rfl) rfl
theorem q1051 : (Jvm.Cond.laysFinal "BreathTown$Looked" "BreathTown$Looked" "this$0" "LBreathTown;") ∈ lw_all := lw_g (lw_at lw_m4 155 rfl) rfl
theorem q1052 : (Jvm.Cond.soleField "BreathTown$Looked" "this$0") ∈ lw_all := lw_g (lw_at lw_m4 156 rfl) rfl
theorem q1053 : (Jvm.Cond.superclass "BreathTown$Looked" "BreathTown$Value") ∈ lw_all := lw_g (lw_at lw_m4 157 rfl) rfl
theorem q1256 : (Jvm.Cond.instanceMethod ({ cls := "BreathTown$Looked", name := "at", desc := "(LBreathTown$Moment;)J" } : Jvm.MethodName)) ∈ lw_all := lw_g (lw_at lw_m5 120 rfl) rfl
theorem q1257 : (Jvm.Cond.code ({ cls := "BreathTown$Looked", name := "at", desc := "(LBreathTown$Moment;)J" } : Jvm.MethodName) prog_8_method_2_code (2 : Nat) (Option.some Jvm.ClassFile.FieldType.long)) ∈ lw_all := lw_g (lw_at lw_m5 121 rfl) rfl
theorem q1258 : (Jvm.Cond.methodLink "BreathTown$Looked" (21 : Nat) ({ cls := "BreathTown$Value", name := "at", desc := "(LBreathTown$Moment;)J" } : Jvm.MethodName)) ∈ lw_all := lw_g (lw_at lw_m5 122 rfl) rfl
theorem q1262 : (Jvm.Cond.methodLinkNest "BreathTown$Looked" (25 : Nat) ({ cls := "BreathTown", name := "looked", desc := "(IJ)J" } : Jvm.MethodName) "BreathTown") ∈ lw_tbl := lw_at lw_m5 126 rfl
theorem q1276 : (Jvm.Cond.methodLinkNest "BreathTown$Looked" (31 : Nat) ({ cls := "BreathTown", name := "held", desc := "(J)J" } : Jvm.MethodName) "BreathTown") ∈ lw_tbl := lw_at lw_m5 140 rfl
theorem q1297 : (Jvm.Cond.selects "BreathTown$Looked" ({ cls := "BreathTown$Value", name := "at", desc := "(LBreathTown$Moment;)J" } : Jvm.MethodName) ({ cls := "BreathTown$Looked", name := "at", desc := "(LBreathTown$Moment;)J" } : Jvm.MethodName)) ∈ lw_all := lw_g (lw_at lw_m5 161 rfl) rfl
theorem q2648 : (Jvm.Cond.castable "BreathTown$Looked" "BreathTown$Value") ∈ lw_tbl := lw_at lw_m11 72 rfl
theorem q2671 : (Jvm.Cond.castable "BreathTown$Looked" "java/lang/Object") ∈ lw_tbl := lw_at lw_m11 95 rfl
theorem in_X14 : ∀ w ∈ wsX140, w ∈ lw_all := lw_in wsX140 [1047, 1049, 1051] (by decide +kernel) (by decide +kernel)
/-! BreathTown$Walker -/
set_option maxRecDepth 100000
def RX15 : String := "BreathTown$Walker"
def TX15 : u_T := fun k => match k with
  | 0 => ("BreathTown$Named", "name", "Ljava/lang/String;", true)
  | 1 => ("BreathTown$Walker", "broad", "I", true)
  | 2 => ("BreathTown$Walker", "at", "I", true)
  | _ => ("BreathTown$Walker", "to", "I", true)
def tyX15 : Nat → FieldType := fun k => match k with
  | 0 => .object "java/lang/String"
  | 1 => .int
  | 2 => .int
  | _ => .int
abbrev wsX150 : List Cond := u_ws RX15 TX15 4
theorem nmX15 : ∀ a, a < 4 → ∀ b, b < 4 → a ≠ b → (TX15 a).2.1 ≠ (TX15 b).2.1 := by decide +kernel
theorem tyX15_ok : ∀ k, k < 4 → parseFieldDescriptor (TX15 k).2.2.1 = some (tyX15 k) := by decide +kernel
abbrev cX15_init : ByteArray := prog_21_method_1_code
def yX15_init : MethodName := ⟨RX15, "<init>", "(Ljava/lang/String;III)V"⟩
def dkwX15_init_0 : List UInt8 := [42, 43, 183, 0, 1, 42, 28, 181, 0, 7, 42, 29, 181, 0, 13, 42, 21, 4, 181, 0, 16, 177]
abbrev dktX15_init_0 : List UInt8 := dkwX15_init_0 ++ []
theorem dksX15_init_0 : cX15_init.data.toList.drop 0 = dktX15_init_0 := by decide +kernel
theorem dX15_init_0 : decode cX15_init 0 = .ok (.aload_n 0, 1) := dk_42 (dk_at dksX15_init_0 0 rfl rfl)
theorem dX15_init_1 : decode cX15_init 1 = .ok (.aload_n 1, 1) := dk_43 (dk_at dksX15_init_0 1 rfl rfl)
theorem dX15_init_2 : decode cX15_init 2 = .ok (.invokespecial 1, 3) := dk_183 0 1 (dk_at dksX15_init_0 2 rfl rfl)
theorem dX15_init_5 : decode cX15_init 5 = .ok (.aload_n 0, 1) := dk_42 (dk_at dksX15_init_0 5 rfl rfl)
theorem dX15_init_6 : decode cX15_init 6 = .ok (.iload_n 2, 1) := dk_28 (dk_at dksX15_init_0 6 rfl rfl)
theorem dX15_init_7 : decode cX15_init 7 = .ok (.putfield 7, 3) := dk_181 0 7 (dk_at dksX15_init_0 7 rfl rfl)
theorem dX15_init_10 : decode cX15_init 10 = .ok (.aload_n 0, 1) := dk_42 (dk_at dksX15_init_0 10 rfl rfl)
theorem dX15_init_11 : decode cX15_init 11 = .ok (.iload_n 3, 1) := dk_29 (dk_at dksX15_init_0 11 rfl rfl)
theorem dX15_init_12 : decode cX15_init 12 = .ok (.putfield 13, 3) := dk_181 0 13 (dk_at dksX15_init_0 12 rfl rfl)
theorem dX15_init_15 : decode cX15_init 15 = .ok (.aload_n 0, 1) := dk_42 (dk_at dksX15_init_0 15 rfl rfl)
theorem dX15_init_16 : decode cX15_init 16 = .ok (.iload 4, 2) := dk_21 4 (dk_at dksX15_init_0 16 rfl rfl)
theorem dX15_init_18 : decode cX15_init 18 = .ok (.putfield 16, 3) := dk_181 0 16 (dk_at dksX15_init_0 18 rfl rfl)
theorem dX15_init_21 : decode cX15_init 21 = .ok (.return_, 1) := dk_177 (dk_at dksX15_init_0 21 rfl rfl)
theorem q209 : (Jvm.Cond.initialized "BreathTown$Walker") ∈ lw_all := lw_g (lw_at lw_m1 33 rfl) rfl
theorem q875 : (Jvm.Cond.selects "BreathTown$Walker" ({ cls := "java/lang/Object", name := "getClass", desc := "()Ljava/lang/Class;" } : Jvm.MethodName) ({ cls := "java/lang/Object", name := "getClass", desc := "()Ljava/lang/Class;" } : Jvm.MethodName)) ∈ lw_all := lw_g (lw_at lw_m3 219 rfl) rfl
theorem q1154 : (Jvm.Cond.instantiable "BreathTown$Walker" (4 : Nat)) ∈ lw_all := lw_g (lw_at lw_m5 18 rfl) rfl
theorem q1156 : (Jvm.Cond.instanceMethod ({ cls := "BreathTown$Walker", name := "<init>", desc := "(Ljava/lang/String;III)V" } : Jvm.MethodName)) ∈ lw_all := lw_g (lw_at lw_m5 20 rfl) rfl
theorem q1157 : (Jvm.Cond.code ({ cls := "BreathTown$Walker", name := "<init>", desc := "(Ljava/lang/String;III)V" } : Jvm.MethodName) prog_21_method_1_code (5 : Nat) (Option.none : Option Jvm.ClassFile.FieldType)) ∈ lw_all := lw_g (lw_at lw_m5 21 rfl) rfl
theorem q1158 : (Jvm.Cond.methodLink "BreathTown$Walker" (1 : Nat) ({ cls := "BreathTown$Named", name := "<init>", desc := "(Ljava/lang/String;)V" } : Jvm.MethodName)) ∈ lw_all := lw_g (lw_at lw_m5 22 rfl) rfl
theorem q1159 : (Jvm.Cond.fieldLink "BreathTown$Walker" (7 : Nat) "BreathTown$Walker" "broad" "I") ∈ lw_all := lw_g (lw_at lw_m5 23 rfl) rfl
theorem q1161 : (Jvm.Cond.fieldLink "BreathTown$Walker" (13 : Nat) "BreathTown$Walker" "at" "I") ∈ lw_all := lw_g (lw_at lw_m5 25 rfl) rfl
theorem q1164 : (Jvm.Cond.fieldLink "BreathTown$Walker" (16 : Nat) "BreathTown$Walker" "to" "I") ∈ lw_all := lw_g (lw_at lw_m5 28 rfl) rfl
theorem q1167 : (Jvm.Cond.laysFinal "BreathTown$Walker" "BreathTown$Walker" "broad" "I") ∈ lw_all := lw_g (lw_at lw_m5 31 rfl) rfl
theorem q1168 : (Jvm.Cond.soleField "BreathTown$Walker" "broad") ∈ lw_all := lw_g (lw_at lw_m5 32 rfl) rfl
theorem q1169 : (Jvm.Cond.laysFinal "BreathTown$Walker" "BreathTown$Walker" "at" "I") ∈ lw_all := lw_g (lw_at lw_m5 33 rfl) rfl
theorem q1170 : (Jvm.Cond.soleField "BreathTown$Walker" "at") ∈ lw_all := lw_g (lw_at lw_m5 34 rfl) rfl
theorem q1171 : (Jvm.Cond.laysFinal "BreathTown$Walker" "BreathTown$Walker" "to" "I") ∈ lw_all := lw_g (lw_at lw_m5 35 rfl) rfl
theorem q1172 : (Jvm.Cond.soleField "BreathTown$Walker" "to") ∈ lw_all := lw_g (lw_at lw_m5 36 rfl) rfl
theorem q1173 : (Jvm.Cond.laysFinal "BreathTown$Walker" "BreathTown$Named" "name" "Ljava/lang/String;") ∈ lw_all := lw_g (lw_at lw_m5 37 rfl) rfl
theorem q1174 : (Jvm.Cond.superclass "BreathTown$Walker" "BreathTown$Named") ∈ lw_all := lw_g (lw_at lw_m5 38 rfl) rfl
theorem q1345 : (Jvm.Cond.selects "BreathTown$Walker" ({ cls := "BreathTown$Named", name := "letter", desc := "(I)I" } : Jvm.MethodName) ({ cls := "BreathTown$Named", name := "letter", desc := "(I)I" } : Jvm.MethodName)) ∈ lw_all := lw_g (lw_at lw_m5 209 rfl) rfl
theorem q2644 : (Jvm.Cond.castable "BreathTown$Walker" "BreathTown$Named") ∈ lw_tbl := lw_at lw_m11 68 rfl
theorem q2672 : (Jvm.Cond.castable "BreathTown$Walker" "java/lang/Object") ∈ lw_tbl := lw_at lw_m11 96 rfl
theorem in_X15 : ∀ w ∈ wsX150, w ∈ lw_all := lw_in wsX150 [1173, 1167, 1169, 1171] (by decide +kernel) (by decide +kernel)
/-! BreathTown$Question -/
set_option maxRecDepth 100000
def RX16 : String := "BreathTown$Question"
def TX16 : u_T := fun k => match k with
  | 0 => ("BreathTown$Question", "what", "I", true)
  | 1 => ("BreathTown$Question", "test", "LBreathTown$Test;", true)
  | 2 => ("BreathTown$Question", "sum", "LBreathTown$Value;", true)
  | 3 => ("BreathTown$Question", "found", "J", false)
  | _ => ("BreathTown$Question", "has", "Z", false)
def tyX16 : Nat → FieldType := fun k => match k with
  | 0 => .int
  | 1 => .object "BreathTown$Test"
  | 2 => .object "BreathTown$Value"
  | 3 => .long
  | _ => .boolean
abbrev wsX160 : List Cond := u_ws RX16 TX16 5
theorem nmX16 : ∀ a, a < 5 → ∀ b, b < 5 → a ≠ b → (TX16 a).2.1 ≠ (TX16 b).2.1 := by decide +kernel
theorem tyX16_ok : ∀ k, k < 5 → parseFieldDescriptor (TX16 k).2.2.1 = some (tyX16 k) := by decide +kernel
abbrev cX16_init : ByteArray := prog_13_method_1_code
def yX16_init : MethodName := ⟨RX16, "<init>", "(ILBreathTown$Test;LBreathTown$Value;)V"⟩
def dkwX16_init_1 : List UInt8 := [181, 0, 25, 177]
abbrev dktX16_init_1 : List UInt8 := dkwX16_init_1 ++ []
def dkwX16_init_0 : List UInt8 := [42, 183, 0, 3, 42, 20, 0, 9, 181, 0, 11, 42, 27, 181, 0, 17, 42, 44, 181, 0, 21, 42, 45]
abbrev dktX16_init_0 : List UInt8 := dkwX16_init_0 ++ dktX16_init_1
theorem dksX16_init_0 : cX16_init.data.toList.drop 0 = dktX16_init_0 := by decide +kernel
theorem dksX16_init_1 : cX16_init.data.toList.drop 23 = dktX16_init_1 := dk_seg dksX16_init_0 23 rfl rfl
theorem dX16_init_0 : decode cX16_init 0 = .ok (.aload_n 0, 1) := dk_42 (dk_at dksX16_init_0 0 rfl rfl)
theorem dX16_init_1 : decode cX16_init 1 = .ok (.invokespecial 3, 3) := dk_183 0 3 (dk_at dksX16_init_0 1 rfl rfl)
theorem dX16_init_4 : decode cX16_init 4 = .ok (.aload_n 0, 1) := dk_42 (dk_at dksX16_init_0 4 rfl rfl)
theorem dX16_init_5 : decode cX16_init 5 = .ok (.ldc2_w 9, 3) := dk_20 0 9 (dk_at dksX16_init_0 5 rfl rfl)
theorem dX16_init_8 : decode cX16_init 8 = .ok (.putfield 11, 3) := dk_181 0 11 (dk_at dksX16_init_0 8 rfl rfl)
theorem dX16_init_11 : decode cX16_init 11 = .ok (.aload_n 0, 1) := dk_42 (dk_at dksX16_init_0 11 rfl rfl)
theorem dX16_init_12 : decode cX16_init 12 = .ok (.iload_n 1, 1) := dk_27 (dk_at dksX16_init_0 12 rfl rfl)
theorem dX16_init_13 : decode cX16_init 13 = .ok (.putfield 17, 3) := dk_181 0 17 (dk_at dksX16_init_0 13 rfl rfl)
theorem dX16_init_16 : decode cX16_init 16 = .ok (.aload_n 0, 1) := dk_42 (dk_at dksX16_init_0 16 rfl rfl)
theorem dX16_init_17 : decode cX16_init 17 = .ok (.aload_n 2, 1) := dk_44 (dk_at dksX16_init_0 17 rfl rfl)
theorem dX16_init_18 : decode cX16_init 18 = .ok (.putfield 21, 3) := dk_181 0 21 (dk_at dksX16_init_0 18 rfl rfl)
theorem dX16_init_21 : decode cX16_init 21 = .ok (.aload_n 0, 1) := dk_42 (dk_at dksX16_init_0 21 rfl rfl)
theorem dX16_init_22 : decode cX16_init 22 = .ok (.aload_n 3, 1) := dk_45 (dk_at dksX16_init_0 22 rfl rfl)
theorem dX16_init_23 : decode cX16_init 23 = .ok (.putfield 25, 3) := dk_181 0 25 (dk_at dksX16_init_1 0 rfl rfl)
theorem dX16_init_26 : decode cX16_init 26 = .ok (.return_, 1) := dk_177 (dk_at dksX16_init_1 3 rfl rfl)
abbrev cX16_meets : ByteArray := prog_13_method_2_code
def yX16_meets : MethodName := ⟨RX16, "meets", "(ILBreathTown$Moment;)V"⟩
def dkwX16_meets_6 : List UInt8 := [181, 0, 11, 42, 4, 181, 0, 41, 177]
abbrev dktX16_meets_6 : List UInt8 := dkwX16_meets_6 ++ []
def dkwX16_meets_5 : List UInt8 := [7, 160, 0, 14, 42, 180, 0, 11, 33, 184, 0, 35, 167, 0, 11, 42, 180, 0, 11, 33, 184, 0, 51]
abbrev dktX16_meets_5 : List UInt8 := dkwX16_meets_5 ++ dktX16_meets_6
def dkwX16_meets_4 : List UInt8 := [167, 0, 47, 42, 180, 0, 17, 6, 160, 0, 12, 42, 180, 0, 11, 33, 97, 167, 0, 30, 42, 180, 0, 17]
abbrev dktX16_meets_4 : List UInt8 := dkwX16_meets_4 ++ dktX16_meets_5
def dkwX16_meets_3 : List UInt8 := [181, 0, 41, 177, 42, 180, 0, 25, 44, 182, 0, 45, 66, 42, 42, 180, 0, 41, 154, 0, 7, 33]
abbrev dktX16_meets_3 : List UInt8 := dkwX16_meets_3 ++ dktX16_meets_4
def dkwX16_meets_2 : List UInt8 := [154, 0, 17, 42, 180, 0, 41, 153, 0, 10, 42, 180, 0, 11, 167, 0, 5, 27, 133, 181, 0, 11, 42, 4]
abbrev dktX16_meets_2 : List UInt8 := dkwX16_meets_2 ++ dktX16_meets_3
def dkwX16_meets_1 : List UInt8 := [180, 0, 17, 5, 160, 0, 16, 9, 42, 180, 0, 11, 184, 0, 35, 10, 97, 167, 0, 26, 42, 180, 0, 17]
abbrev dktX16_meets_1 : List UInt8 := dkwX16_meets_1 ++ dktX16_meets_2
def dkwX16_meets_0 : List UInt8 := [42, 180, 0, 17, 6, 162, 0, 69, 42, 180, 0, 21, 44, 182, 0, 29, 154, 0, 4, 177, 42, 42]
abbrev dktX16_meets_0 : List UInt8 := dkwX16_meets_0 ++ dktX16_meets_1
theorem dksX16_meets_0 : cX16_meets.data.toList.drop 0 = dktX16_meets_0 := by decide +kernel
theorem dksX16_meets_1 : cX16_meets.data.toList.drop 22 = dktX16_meets_1 := dk_seg dksX16_meets_0 22 rfl rfl
theorem dksX16_meets_2 : cX16_meets.data.toList.drop 46 = dktX16_meets_2 := dk_seg dksX16_meets_1 24 rfl rfl
theorem dksX16_meets_3 : cX16_meets.data.toList.drop 70 = dktX16_meets_3 := dk_seg dksX16_meets_2 24 rfl rfl
theorem dksX16_meets_4 : cX16_meets.data.toList.drop 92 = dktX16_meets_4 := dk_seg dksX16_meets_3 22 rfl rfl
theorem dksX16_meets_5 : cX16_meets.data.toList.drop 116 = dktX16_meets_5 := dk_seg dksX16_meets_4 24 rfl rfl
theorem dksX16_meets_6 : cX16_meets.data.toList.drop 139 = dktX16_meets_6 := dk_seg dksX16_meets_5 23 rfl rfl
theorem dX16_meets_0 : decode cX16_meets 0 = .ok (.aload_n 0, 1) := dk_42 (dk_at dksX16_meets_0 0 rfl rfl)
theorem dX16_meets_1 : decode cX16_meets 1 = .ok (.getfield 17, 3) := dk_180 0 17 (dk_at dksX16_meets_0 1 rfl rfl)
theorem dX16_meets_4 : decode cX16_meets 4 = .ok (.iconst 3, 1) := dk_6 (dk_at dksX16_meets_0 4 rfl rfl)
theorem dX16_meets_5 : decode cX16_meets 5 = .ok (.if_icmp .ge 69, 3) := dk_162 0 69 (dk_at dksX16_meets_0 5 rfl rfl)
theorem dX16_meets_8 : decode cX16_meets 8 = .ok (.aload_n 0, 1) := dk_42 (dk_at dksX16_meets_0 8 rfl rfl)
theorem dX16_meets_9 : decode cX16_meets 9 = .ok (.getfield 21, 3) := dk_180 0 21 (dk_at dksX16_meets_0 9 rfl rfl)
theorem dX16_meets_12 : decode cX16_meets 12 = .ok (.aload_n 2, 1) := dk_44 (dk_at dksX16_meets_0 12 rfl rfl)
theorem dX16_meets_13 : decode cX16_meets 13 = .ok (.invokevirtual 29, 3) := dk_182 0 29 (dk_at dksX16_meets_0 13 rfl rfl)
theorem dX16_meets_16 : decode cX16_meets 16 = .ok (.ifCond .ne 4, 3) := dk_154 0 4 (dk_at dksX16_meets_0 16 rfl rfl)
theorem dX16_meets_19 : decode cX16_meets 19 = .ok (.return_, 1) := dk_177 (dk_at dksX16_meets_0 19 rfl rfl)
theorem dX16_meets_20 : decode cX16_meets 20 = .ok (.aload_n 0, 1) := dk_42 (dk_at dksX16_meets_0 20 rfl rfl)
theorem dX16_meets_21 : decode cX16_meets 21 = .ok (.aload_n 0, 1) := dk_42 (dk_at dksX16_meets_0 21 rfl rfl)
theorem dX16_meets_22 : decode cX16_meets 22 = .ok (.getfield 17, 3) := dk_180 0 17 (dk_at dksX16_meets_1 0 rfl rfl)
theorem dX16_meets_25 : decode cX16_meets 25 = .ok (.iconst 2, 1) := dk_5 (dk_at dksX16_meets_1 3 rfl rfl)
theorem dX16_meets_26 : decode cX16_meets 26 = .ok (.if_icmp .ne 16, 3) := dk_160 0 16 (dk_at dksX16_meets_1 4 rfl rfl)
theorem dX16_meets_29 : decode cX16_meets 29 = .ok (.lconst 0, 1) := dk_9 (dk_at dksX16_meets_1 7 rfl rfl)
theorem dX16_meets_30 : decode cX16_meets 30 = .ok (.aload_n 0, 1) := dk_42 (dk_at dksX16_meets_1 8 rfl rfl)
theorem dX16_meets_31 : decode cX16_meets 31 = .ok (.getfield 11, 3) := dk_180 0 11 (dk_at dksX16_meets_1 9 rfl rfl)
theorem dX16_meets_34 : decode cX16_meets 34 = .ok (.invokestatic 35, 3) := dk_184 0 35 (dk_at dksX16_meets_1 12 rfl rfl)
theorem dX16_meets_37 : decode cX16_meets 37 = .ok (.lconst 1, 1) := dk_10 (dk_at dksX16_meets_1 15 rfl rfl)
theorem dX16_meets_38 : decode cX16_meets 38 = .ok (.ladd, 1) := dk_97 (dk_at dksX16_meets_1 16 rfl rfl)
theorem dX16_meets_39 : decode cX16_meets 39 = .ok (.goto 26, 3) := dk_167 0 26 (dk_at dksX16_meets_1 17 rfl rfl)
theorem dX16_meets_42 : decode cX16_meets 42 = .ok (.aload_n 0, 1) := dk_42 (dk_at dksX16_meets_1 20 rfl rfl)
theorem dX16_meets_43 : decode cX16_meets 43 = .ok (.getfield 17, 3) := dk_180 0 17 (dk_at dksX16_meets_1 21 rfl rfl)
theorem dX16_meets_46 : decode cX16_meets 46 = .ok (.ifCond .ne 17, 3) := dk_154 0 17 (dk_at dksX16_meets_2 0 rfl rfl)
theorem dX16_meets_49 : decode cX16_meets 49 = .ok (.aload_n 0, 1) := dk_42 (dk_at dksX16_meets_2 3 rfl rfl)
theorem dX16_meets_50 : decode cX16_meets 50 = .ok (.getfield 41, 3) := dk_180 0 41 (dk_at dksX16_meets_2 4 rfl rfl)
theorem dX16_meets_53 : decode cX16_meets 53 = .ok (.ifCond .eq 10, 3) := dk_153 0 10 (dk_at dksX16_meets_2 7 rfl rfl)
theorem dX16_meets_56 : decode cX16_meets 56 = .ok (.aload_n 0, 1) := dk_42 (dk_at dksX16_meets_2 10 rfl rfl)
theorem dX16_meets_57 : decode cX16_meets 57 = .ok (.getfield 11, 3) := dk_180 0 11 (dk_at dksX16_meets_2 11 rfl rfl)
theorem dX16_meets_60 : decode cX16_meets 60 = .ok (.goto 5, 3) := dk_167 0 5 (dk_at dksX16_meets_2 14 rfl rfl)
theorem dX16_meets_63 : decode cX16_meets 63 = .ok (.iload_n 1, 1) := dk_27 (dk_at dksX16_meets_2 17 rfl rfl)
theorem dX16_meets_64 : decode cX16_meets 64 = .ok (.i2l, 1) := dk_133 (dk_at dksX16_meets_2 18 rfl rfl)
theorem dX16_meets_65 : decode cX16_meets 65 = .ok (.putfield 11, 3) := dk_181 0 11 (dk_at dksX16_meets_2 19 rfl rfl)
theorem dX16_meets_68 : decode cX16_meets 68 = .ok (.aload_n 0, 1) := dk_42 (dk_at dksX16_meets_2 22 rfl rfl)
theorem dX16_meets_69 : decode cX16_meets 69 = .ok (.iconst 1, 1) := dk_4 (dk_at dksX16_meets_2 23 rfl rfl)
theorem dX16_meets_70 : decode cX16_meets 70 = .ok (.putfield 41, 3) := dk_181 0 41 (dk_at dksX16_meets_3 0 rfl rfl)
theorem dX16_meets_73 : decode cX16_meets 73 = .ok (.return_, 1) := dk_177 (dk_at dksX16_meets_3 3 rfl rfl)
theorem dX16_meets_74 : decode cX16_meets 74 = .ok (.aload_n 0, 1) := dk_42 (dk_at dksX16_meets_3 4 rfl rfl)
theorem dX16_meets_75 : decode cX16_meets 75 = .ok (.getfield 25, 3) := dk_180 0 25 (dk_at dksX16_meets_3 5 rfl rfl)
theorem dX16_meets_78 : decode cX16_meets 78 = .ok (.aload_n 2, 1) := dk_44 (dk_at dksX16_meets_3 8 rfl rfl)
theorem dX16_meets_79 : decode cX16_meets 79 = .ok (.invokevirtual 45, 3) := dk_182 0 45 (dk_at dksX16_meets_3 9 rfl rfl)
theorem dX16_meets_82 : decode cX16_meets 82 = .ok (.lstore_n 3, 1) := dk_66 (dk_at dksX16_meets_3 12 rfl rfl)
theorem dX16_meets_83 : decode cX16_meets 83 = .ok (.aload_n 0, 1) := dk_42 (dk_at dksX16_meets_3 13 rfl rfl)
theorem dX16_meets_84 : decode cX16_meets 84 = .ok (.aload_n 0, 1) := dk_42 (dk_at dksX16_meets_3 14 rfl rfl)
theorem dX16_meets_85 : decode cX16_meets 85 = .ok (.getfield 41, 3) := dk_180 0 41 (dk_at dksX16_meets_3 15 rfl rfl)
theorem dX16_meets_88 : decode cX16_meets 88 = .ok (.ifCond .ne 7, 3) := dk_154 0 7 (dk_at dksX16_meets_3 18 rfl rfl)
theorem dX16_meets_91 : decode cX16_meets 91 = .ok (.lload_n 3, 1) := dk_33 (dk_at dksX16_meets_3 21 rfl rfl)
theorem dX16_meets_92 : decode cX16_meets 92 = .ok (.goto 47, 3) := dk_167 0 47 (dk_at dksX16_meets_4 0 rfl rfl)
theorem dX16_meets_95 : decode cX16_meets 95 = .ok (.aload_n 0, 1) := dk_42 (dk_at dksX16_meets_4 3 rfl rfl)
theorem dX16_meets_96 : decode cX16_meets 96 = .ok (.getfield 17, 3) := dk_180 0 17 (dk_at dksX16_meets_4 4 rfl rfl)
theorem dX16_meets_99 : decode cX16_meets 99 = .ok (.iconst 3, 1) := dk_6 (dk_at dksX16_meets_4 7 rfl rfl)
theorem dX16_meets_100 : decode cX16_meets 100 = .ok (.if_icmp .ne 12, 3) := dk_160 0 12 (dk_at dksX16_meets_4 8 rfl rfl)
theorem dX16_meets_103 : decode cX16_meets 103 = .ok (.aload_n 0, 1) := dk_42 (dk_at dksX16_meets_4 11 rfl rfl)
theorem dX16_meets_104 : decode cX16_meets 104 = .ok (.getfield 11, 3) := dk_180 0 11 (dk_at dksX16_meets_4 12 rfl rfl)
theorem dX16_meets_107 : decode cX16_meets 107 = .ok (.lload_n 3, 1) := dk_33 (dk_at dksX16_meets_4 15 rfl rfl)
theorem dX16_meets_108 : decode cX16_meets 108 = .ok (.ladd, 1) := dk_97 (dk_at dksX16_meets_4 16 rfl rfl)
theorem dX16_meets_109 : decode cX16_meets 109 = .ok (.goto 30, 3) := dk_167 0 30 (dk_at dksX16_meets_4 17 rfl rfl)
theorem dX16_meets_112 : decode cX16_meets 112 = .ok (.aload_n 0, 1) := dk_42 (dk_at dksX16_meets_4 20 rfl rfl)
theorem dX16_meets_113 : decode cX16_meets 113 = .ok (.getfield 17, 3) := dk_180 0 17 (dk_at dksX16_meets_4 21 rfl rfl)
theorem dX16_meets_116 : decode cX16_meets 116 = .ok (.iconst 4, 1) := dk_7 (dk_at dksX16_meets_5 0 rfl rfl)
theorem dX16_meets_117 : decode cX16_meets 117 = .ok (.if_icmp .ne 14, 3) := dk_160 0 14 (dk_at dksX16_meets_5 1 rfl rfl)
theorem dX16_meets_120 : decode cX16_meets 120 = .ok (.aload_n 0, 1) := dk_42 (dk_at dksX16_meets_5 4 rfl rfl)
theorem dX16_meets_121 : decode cX16_meets 121 = .ok (.getfield 11, 3) := dk_180 0 11 (dk_at dksX16_meets_5 5 rfl rfl)
theorem dX16_meets_124 : decode cX16_meets 124 = .ok (.lload_n 3, 1) := dk_33 (dk_at dksX16_meets_5 8 rfl rfl)
theorem dX16_meets_125 : decode cX16_meets 125 = .ok (.invokestatic 35, 3) := dk_184 0 35 (dk_at dksX16_meets_5 9 rfl rfl)
theorem dX16_meets_128 : decode cX16_meets 128 = .ok (.goto 11, 3) := dk_167 0 11 (dk_at dksX16_meets_5 12 rfl rfl)
theorem dX16_meets_131 : decode cX16_meets 131 = .ok (.aload_n 0, 1) := dk_42 (dk_at dksX16_meets_5 15 rfl rfl)
theorem dX16_meets_132 : decode cX16_meets 132 = .ok (.getfield 11, 3) := dk_180 0 11 (dk_at dksX16_meets_5 16 rfl rfl)
theorem dX16_meets_135 : decode cX16_meets 135 = .ok (.lload_n 3, 1) := dk_33 (dk_at dksX16_meets_5 19 rfl rfl)
theorem dX16_meets_136 : decode cX16_meets 136 = .ok (.invokestatic 51, 3) := dk_184 0 51 (dk_at dksX16_meets_5 20 rfl rfl)
theorem dX16_meets_139 : decode cX16_meets 139 = .ok (.putfield 11, 3) := dk_181 0 11 (dk_at dksX16_meets_6 0 rfl rfl)
theorem dX16_meets_142 : decode cX16_meets 142 = .ok (.aload_n 0, 1) := dk_42 (dk_at dksX16_meets_6 3 rfl rfl)
theorem dX16_meets_143 : decode cX16_meets 143 = .ok (.iconst 1, 1) := dk_4 (dk_at dksX16_meets_6 4 rfl rfl)
theorem dX16_meets_144 : decode cX16_meets 144 = .ok (.putfield 41, 3) := dk_181 0 41 (dk_at dksX16_meets_6 5 rfl rfl)
theorem dX16_meets_147 : decode cX16_meets 147 = .ok (.return_, 1) := dk_177 (dk_at dksX16_meets_6 8 rfl rfl)
abbrev cX16_answer : ByteArray := prog_13_method_3_code
def yX16_answer : MethodName := ⟨RX16, "answer", "()J"⟩
def dkwX16_answer_0 : List UInt8 := [42, 180, 0, 41, 154, 0, 11, 42, 180, 0, 17, 5, 162, 0, 10, 42, 180, 0, 11, 167, 0, 4, 9, 173]
abbrev dktX16_answer_0 : List UInt8 := dkwX16_answer_0 ++ []
theorem dksX16_answer_0 : cX16_answer.data.toList.drop 0 = dktX16_answer_0 := by decide +kernel
theorem dX16_answer_0 : decode cX16_answer 0 = .ok (.aload_n 0, 1) := dk_42 (dk_at dksX16_answer_0 0 rfl rfl)
theorem dX16_answer_1 : decode cX16_answer 1 = .ok (.getfield 41, 3) := dk_180 0 41 (dk_at dksX16_answer_0 1 rfl rfl)
theorem dX16_answer_4 : decode cX16_answer 4 = .ok (.ifCond .ne 11, 3) := dk_154 0 11 (dk_at dksX16_answer_0 4 rfl rfl)
theorem dX16_answer_7 : decode cX16_answer 7 = .ok (.aload_n 0, 1) := dk_42 (dk_at dksX16_answer_0 7 rfl rfl)
theorem dX16_answer_8 : decode cX16_answer 8 = .ok (.getfield 17, 3) := dk_180 0 17 (dk_at dksX16_answer_0 8 rfl rfl)
theorem dX16_answer_11 : decode cX16_answer 11 = .ok (.iconst 2, 1) := dk_5 (dk_at dksX16_answer_0 11 rfl rfl)
theorem dX16_answer_12 : decode cX16_answer 12 = .ok (.if_icmp .ge 10, 3) := dk_162 0 10 (dk_at dksX16_answer_0 12 rfl rfl)
theorem dX16_answer_15 : decode cX16_answer 15 = .ok (.aload_n 0, 1) := dk_42 (dk_at dksX16_answer_0 15 rfl rfl)
theorem dX16_answer_16 : decode cX16_answer 16 = .ok (.getfield 11, 3) := dk_180 0 11 (dk_at dksX16_answer_0 16 rfl rfl)
theorem dX16_answer_19 : decode cX16_answer 19 = .ok (.goto 4, 3) := dk_167 0 4 (dk_at dksX16_answer_0 19 rfl rfl)
theorem dX16_answer_22 : decode cX16_answer 22 = .ok (.lconst 0, 1) := dk_9 (dk_at dksX16_answer_0 22 rfl rfl)
theorem dX16_answer_23 : decode cX16_answer 23 = .ok (.lreturn, 1) := dk_173 (dk_at dksX16_answer_0 23 rfl rfl)
theorem q211 : (Jvm.Cond.initialized "BreathTown$Question") ∈ lw_all := lw_g (lw_at lw_m1 35 rfl) rfl
theorem q869 : (Jvm.Cond.selects "BreathTown$Question" ({ cls := "java/lang/Object", name := "getClass", desc := "()Ljava/lang/Class;" } : Jvm.MethodName) ({ cls := "java/lang/Object", name := "getClass", desc := "()Ljava/lang/Class;" } : Jvm.MethodName)) ∈ lw_all := lw_g (lw_at lw_m3 213 rfl) rfl
theorem q1555 : (Jvm.Cond.instantiable "BreathTown$Question" (5 : Nat)) ∈ lw_all := lw_g (lw_at lw_m6 179 rfl) rfl
theorem q1629 : (Jvm.Cond.instanceMethod ({ cls := "BreathTown$Question", name := "<init>", desc := "(ILBreathTown$Test;LBreathTown$Value;)V" } : Jvm.MethodName)) ∈ lw_all := lw_g (lw_at lw_m7 13 rfl) rfl
theorem q1630 : (Jvm.Cond.code ({ cls := "BreathTown$Question", name := "<init>", desc := "(ILBreathTown$Test;LBreathTown$Value;)V" } : Jvm.MethodName) prog_13_method_1_code (4 : Nat) (Option.none : Option Jvm.ClassFile.FieldType)) ∈ lw_all := lw_g (lw_at lw_m7 14 rfl) rfl
theorem q1631 : (Jvm.Cond.methodLink "BreathTown$Question" (3 : Nat) ({ cls := "java/lang/Object", name := "<init>", desc := "()V" } : Jvm.MethodName)) ∈ lw_all := lw_g (lw_at lw_m7 15 rfl) rfl
theorem q1632 : (Jvm.Cond.constantLong "BreathTown$Question" (9 : Nat) (-1 : Int64)) ∈ lw_all := lw_g (lw_at lw_m7 16 rfl) rfl
theorem q1633 : (Jvm.Cond.fieldLink "BreathTown$Question" (17 : Nat) "BreathTown$Question" "what" "I") ∈ lw_all := lw_g (lw_at lw_m7 17 rfl) rfl
theorem q1634 : (Jvm.Cond.fieldLink "BreathTown$Question" (21 : Nat) "BreathTown$Question" "test" "LBreathTown$Test;") ∈ lw_all := lw_g (lw_at lw_m7 18 rfl) rfl
theorem q1635 : (Jvm.Cond.fieldLink "BreathTown$Question" (25 : Nat) "BreathTown$Question" "sum" "LBreathTown$Value;") ∈ lw_all := lw_g (lw_at lw_m7 19 rfl) rfl
theorem q1636 : (Jvm.Cond.fieldLink "BreathTown$Question" (11 : Nat) "BreathTown$Question" "found" "J") ∈ lw_all := lw_g (lw_at lw_m7 20 rfl) rfl
theorem q1637 : (Jvm.Cond.fieldLink "BreathTown$Question" (41 : Nat) "BreathTown$Question" "has" "Z") ∈ lw_all := lw_g (lw_at lw_m7 21 rfl) rfl
theorem q1638 : (Jvm.Cond.laysFinal "BreathTown$Question" "BreathTown$Question" "what" "I") ∈ lw_all := lw_g (lw_at lw_m7 22 rfl) rfl
theorem q1639 : (Jvm.Cond.soleField "BreathTown$Question" "what") ∈ lw_all := lw_g (lw_at lw_m7 23 rfl) rfl
theorem q1640 : (Jvm.Cond.laysFinal "BreathTown$Question" "BreathTown$Question" "test" "LBreathTown$Test;") ∈ lw_all := lw_g (lw_at lw_m7 24 rfl) rfl
theorem q1641 : (Jvm.Cond.soleField "BreathTown$Question" "test") ∈ lw_all := lw_g (lw_at lw_m7 25 rfl) rfl
theorem q1642 : (Jvm.Cond.laysFinal "BreathTown$Question" "BreathTown$Question" "sum" "LBreathTown$Value;") ∈ lw_all := lw_g (lw_at lw_m7 26 rfl) rfl
theorem q1643 : (Jvm.Cond.soleField "BreathTown$Question" "sum") ∈ lw_all := lw_g (lw_at lw_m7 27 rfl) rfl
theorem q1644 : (Jvm.Cond.lays "BreathTown$Question" "BreathTown$Question" "found" "J") ∈ lw_all := lw_g (lw_at lw_m7 28 rfl) rfl
theorem q1645 : (Jvm.Cond.soleField "BreathTown$Question" "found") ∈ lw_all := lw_g (lw_at lw_m7 29 rfl) rfl
theorem q1646 : (Jvm.Cond.lays "BreathTown$Question" "BreathTown$Question" "has" "Z") ∈ lw_all := lw_g (lw_at lw_m7 30 rfl) rfl
theorem q1647 : (Jvm.Cond.soleField "BreathTown$Question" "has") ∈ lw_all := lw_g (lw_at lw_m7 31 rfl) rfl
theorem q1648 : (Jvm.Cond.superclass "BreathTown$Question" "java/lang/Object") ∈ lw_all := lw_g (lw_at lw_m7 32 rfl) rfl
theorem q1651 : (Jvm.Cond.instanceMethod ({ cls := "BreathTown$Question", name := "meets", desc := "(ILBreathTown$Moment;)V" } : Jvm.MethodName)) ∈ lw_all := lw_g (lw_at lw_m7 35 rfl) rfl
theorem q1652 : (Jvm.Cond.selects "BreathTown$Question" ({ cls := "BreathTown$Question", name := "meets", desc := "(ILBreathTown$Moment;)V" } : Jvm.MethodName) ({ cls := "BreathTown$Question", name := "meets", desc := "(ILBreathTown$Moment;)V" } : Jvm.MethodName)) ∈ lw_all := lw_g (lw_at lw_m7 36 rfl) rfl
theorem q1653 : (Jvm.Cond.code ({ cls := "BreathTown$Question", name := "meets", desc := "(ILBreathTown$Moment;)V" } : Jvm.MethodName) prog_13_method_2_code (5 : Nat) (Option.none : Option Jvm.ClassFile.FieldType)) ∈ lw_all := lw_g (lw_at lw_m7 37 rfl) rfl
theorem q1654 : (Jvm.Cond.methodLink "BreathTown$Question" (29 : Nat) ({ cls := "BreathTown$Test", name := "holds", desc := "(LBreathTown$Moment;)Z" } : Jvm.MethodName)) ∈ lw_all := lw_g (lw_at lw_m7 38 rfl) rfl
theorem q1677 : (Jvm.Cond.methodLink "BreathTown$Question" (35 : Nat) ({ cls := "java/lang/Math", name := "max", desc := "(JJ)J" } : Jvm.MethodName)) ∈ lw_all := lw_g (lw_at lw_m7 61 rfl) rfl
theorem q1678 : (Jvm.Cond.methodLink "BreathTown$Question" (45 : Nat) ({ cls := "BreathTown$Value", name := "at", desc := "(LBreathTown$Moment;)J" } : Jvm.MethodName)) ∈ lw_all := lw_g (lw_at lw_m7 62 rfl) rfl
theorem q1679 : (Jvm.Cond.methodLink "BreathTown$Question" (51 : Nat) ({ cls := "java/lang/Math", name := "min", desc := "(JJ)J" } : Jvm.MethodName)) ∈ lw_all := lw_g (lw_at lw_m7 63 rfl) rfl
theorem q1681 : (Jvm.Cond.instanceMethod ({ cls := "BreathTown$Question", name := "answer", desc := "()J" } : Jvm.MethodName)) ∈ lw_all := lw_g (lw_at lw_m7 65 rfl) rfl
theorem q1682 : (Jvm.Cond.selects "BreathTown$Question" ({ cls := "BreathTown$Question", name := "answer", desc := "()J" } : Jvm.MethodName) ({ cls := "BreathTown$Question", name := "answer", desc := "()J" } : Jvm.MethodName)) ∈ lw_all := lw_g (lw_at lw_m7 66 rfl) rfl
theorem q1683 : (Jvm.Cond.code ({ cls := "BreathTown$Question", name := "answer", desc := "()J" } : Jvm.MethodName) prog_13_method_3_code (1 : Nat) (Option.some Jvm.ClassFile.FieldType.long)) ∈ lw_all := lw_g (lw_at lw_m7 67 rfl) rfl
theorem q2673 : (Jvm.Cond.castable "BreathTown$Question" "java/lang/Object") ∈ lw_tbl := lw_at lw_m11 97 rfl
theorem in_X16 : ∀ w ∈ wsX160, w ∈ lw_all := lw_in wsX160 [1638, 1640, 1642, 1644, 1646] (by decide +kernel) (by decide +kernel)
/-! BreathTown$Test -/
set_option maxRecDepth 100000
def RX17 : String := "BreathTown$Test"
abbrev cX17_init : ByteArray := prog_17_method_1_code
def yX17_init : MethodName := ⟨RX17, "<init>", "()V"⟩
theorem dX17_init_0 : decode cX17_init 0 = .ok (.aload_n 0, 1) := by decide +kernel
theorem dX17_init_1 : decode cX17_init 1 = .ok (.invokespecial 1, 3) := by decide +kernel
theorem dX17_init_4 : decode cX17_init 4 = .ok (.return_, 1) := by decide +kernel
theorem q212 : (Jvm.Cond.initialized "BreathTown$Test") ∈ lw_all := lw_g (lw_at lw_m1 36 rfl) rfl
theorem q1566 : (Jvm.Cond.instanceMethod ({ cls := "BreathTown$Test", name := "<init>", desc := "()V" } : Jvm.MethodName)) ∈ lw_all := lw_g (lw_at lw_m6 190 rfl) rfl
theorem q1567 : (Jvm.Cond.code ({ cls := "BreathTown$Test", name := "<init>", desc := "()V" } : Jvm.MethodName) prog_17_method_1_code (1 : Nat) (Option.none : Option Jvm.ClassFile.FieldType)) ∈ lw_all := lw_g (lw_at lw_m6 191 rfl) rfl
theorem q1568 : (Jvm.Cond.methodLink "BreathTown$Test" (1 : Nat) ({ cls := "java/lang/Object", name := "<init>", desc := "()V" } : Jvm.MethodName)) ∈ lw_all := lw_g (lw_at lw_m6 192 rfl) rfl
theorem q1655 : (Jvm.Cond.declares ({ cls := "BreathTown$Test", name := "holds", desc := "(LBreathTown$Moment;)Z" } : Jvm.MethodName)) ∈ lw_tbl := lw_at lw_m7 39 rfl
theorem q1656 : (Jvm.Cond.sameMethod "BreathTown$Test" "BreathTown$Test" "holds" "(LBreathTown$Moment;)Z") ∈ lw_all := lw_g (lw_at lw_m7 40 rfl) rfl
/-! BreathTown$Facts -/
set_option maxRecDepth 100000
def RX18 : String := "BreathTown$Facts"
def TX18 : u_T := fun k => match k with
  | 0 => ("BreathTown$Facts", "tests", "Ljava/util/List;", true)
  | _ => ("BreathTown$Facts", "all", "Z", true)
def tyX18 : Nat → FieldType := fun k => match k with
  | 0 => .object "java/util/List"
  | _ => .boolean
abbrev wsX180 : List Cond := u_ws RX18 TX18 2
theorem nmX18 : ∀ a, a < 2 → ∀ b, b < 2 → a ≠ b → (TX18 a).2.1 ≠ (TX18 b).2.1 := by decide +kernel
theorem tyX18_ok : ∀ k, k < 2 → parseFieldDescriptor (TX18 k).2.2.1 = some (tyX18 k) := by decide +kernel
abbrev cX18_init : ByteArray := prog_5_method_1_code
def yX18_init : MethodName := ⟨RX18, "<init>", "(Z)V"⟩
def dkwX18_init_0 : List UInt8 := [42, 183, 0, 1, 42, 187, 0, 7, 89, 5, 183, 0, 9, 181, 0, 12, 42, 27, 181, 0, 18, 177]
abbrev dktX18_init_0 : List UInt8 := dkwX18_init_0 ++ []
theorem dksX18_init_0 : cX18_init.data.toList.drop 0 = dktX18_init_0 := by decide +kernel
theorem dX18_init_0 : decode cX18_init 0 = .ok (.aload_n 0, 1) := dk_42 (dk_at dksX18_init_0 0 rfl rfl)
theorem dX18_init_1 : decode cX18_init 1 = .ok (.invokespecial 1, 3) := dk_183 0 1 (dk_at dksX18_init_0 1 rfl rfl)
theorem dX18_init_4 : decode cX18_init 4 = .ok (.aload_n 0, 1) := dk_42 (dk_at dksX18_init_0 4 rfl rfl)
theorem dX18_init_5 : decode cX18_init 5 = .ok (.new 7, 3) := dk_187 0 7 (dk_at dksX18_init_0 5 rfl rfl)
theorem dX18_init_8 : decode cX18_init 8 = .ok (.dup, 1) := dk_89 (dk_at dksX18_init_0 8 rfl rfl)
theorem dX18_init_9 : decode cX18_init 9 = .ok (.iconst 2, 1) := dk_5 (dk_at dksX18_init_0 9 rfl rfl)
theorem dX18_init_10 : decode cX18_init 10 = .ok (.invokespecial 9, 3) := dk_183 0 9 (dk_at dksX18_init_0 10 rfl rfl)
theorem dX18_init_13 : decode cX18_init 13 = .ok (.putfield 12, 3) := dk_181 0 12 (dk_at dksX18_init_0 13 rfl rfl)
theorem dX18_init_16 : decode cX18_init 16 = .ok (.aload_n 0, 1) := dk_42 (dk_at dksX18_init_0 16 rfl rfl)
theorem dX18_init_17 : decode cX18_init 17 = .ok (.iload_n 1, 1) := dk_27 (dk_at dksX18_init_0 17 rfl rfl)
theorem dX18_init_18 : decode cX18_init 18 = .ok (.putfield 18, 3) := dk_181 0 18 (dk_at dksX18_init_0 18 rfl rfl)
theorem dX18_init_21 : decode cX18_init 21 = .ok (.return_, 1) := dk_177 (dk_at dksX18_init_0 21 rfl rfl)
abbrev cX18_holds : ByteArray := prog_5_method_2_code
def yX18_holds : MethodName := ⟨RX18, "holds", "(LBreathTown$Moment;)Z"⟩
def dkwX18_holds_2 : List UInt8 := [154, 0, 7, 4, 167, 0, 4, 3, 172, 132, 2, 1, 167, 255, 203, 42, 180, 0, 18, 172]
abbrev dktX18_holds_2 : List UInt8 := dkwX18_holds_2 ++ []
def dkwX18_holds_1 : List UInt8 := [185, 0, 28, 2, 0, 192, 0, 2, 43, 182, 0, 32, 42, 180, 0, 18, 159, 0, 16, 42, 180, 0, 18]
abbrev dktX18_holds_1 : List UInt8 := dkwX18_holds_1 ++ dktX18_holds_2
def dkwX18_holds_0 : List UInt8 := [3, 61, 28, 42, 180, 0, 12, 185, 0, 22, 1, 0, 162, 0, 46, 42, 180, 0, 12, 28]
abbrev dktX18_holds_0 : List UInt8 := dkwX18_holds_0 ++ dktX18_holds_1
theorem dksX18_holds_0 : cX18_holds.data.toList.drop 0 = dktX18_holds_0 := by decide +kernel
theorem dksX18_holds_1 : cX18_holds.data.toList.drop 20 = dktX18_holds_1 := dk_seg dksX18_holds_0 20 rfl rfl
theorem dksX18_holds_2 : cX18_holds.data.toList.drop 43 = dktX18_holds_2 := dk_seg dksX18_holds_1 23 rfl rfl
theorem dX18_holds_0 : decode cX18_holds 0 = .ok (.iconst 0, 1) := dk_3 (dk_at dksX18_holds_0 0 rfl rfl)
theorem dX18_holds_1 : decode cX18_holds 1 = .ok (.istore_n 2, 1) := dk_61 (dk_at dksX18_holds_0 1 rfl rfl)
theorem dX18_holds_2 : decode cX18_holds 2 = .ok (.iload_n 2, 1) := dk_28 (dk_at dksX18_holds_0 2 rfl rfl)
theorem dX18_holds_3 : decode cX18_holds 3 = .ok (.aload_n 0, 1) := dk_42 (dk_at dksX18_holds_0 3 rfl rfl)
theorem dX18_holds_4 : decode cX18_holds 4 = .ok (.getfield 12, 3) := dk_180 0 12 (dk_at dksX18_holds_0 4 rfl rfl)
theorem dX18_holds_7 : decode cX18_holds 7 = .ok (.invokeinterface 22 1, 5) := by decide +kernel
theorem dX18_holds_12 : decode cX18_holds 12 = .ok (.if_icmp .ge 46, 3) := dk_162 0 46 (dk_at dksX18_holds_0 12 rfl rfl)
theorem dX18_holds_15 : decode cX18_holds 15 = .ok (.aload_n 0, 1) := dk_42 (dk_at dksX18_holds_0 15 rfl rfl)
theorem dX18_holds_16 : decode cX18_holds 16 = .ok (.getfield 12, 3) := dk_180 0 12 (dk_at dksX18_holds_0 16 rfl rfl)
theorem dX18_holds_19 : decode cX18_holds 19 = .ok (.iload_n 2, 1) := dk_28 (dk_at dksX18_holds_0 19 rfl rfl)
theorem dX18_holds_20 : decode cX18_holds 20 = .ok (.invokeinterface 28 2, 5) := by decide +kernel
theorem dX18_holds_25 : decode cX18_holds 25 = .ok (.checkcast 2, 3) := dk_192 0 2 (dk_at dksX18_holds_1 5 rfl rfl)
theorem dX18_holds_28 : decode cX18_holds 28 = .ok (.aload_n 1, 1) := dk_43 (dk_at dksX18_holds_1 8 rfl rfl)
theorem dX18_holds_29 : decode cX18_holds 29 = .ok (.invokevirtual 32, 3) := dk_182 0 32 (dk_at dksX18_holds_1 9 rfl rfl)
theorem dX18_holds_32 : decode cX18_holds 32 = .ok (.aload_n 0, 1) := dk_42 (dk_at dksX18_holds_1 12 rfl rfl)
theorem dX18_holds_33 : decode cX18_holds 33 = .ok (.getfield 18, 3) := dk_180 0 18 (dk_at dksX18_holds_1 13 rfl rfl)
theorem dX18_holds_36 : decode cX18_holds 36 = .ok (.if_icmp .eq 16, 3) := dk_159 0 16 (dk_at dksX18_holds_1 16 rfl rfl)
theorem dX18_holds_39 : decode cX18_holds 39 = .ok (.aload_n 0, 1) := dk_42 (dk_at dksX18_holds_1 19 rfl rfl)
theorem dX18_holds_40 : decode cX18_holds 40 = .ok (.getfield 18, 3) := dk_180 0 18 (dk_at dksX18_holds_1 20 rfl rfl)
theorem dX18_holds_43 : decode cX18_holds 43 = .ok (.ifCond .ne 7, 3) := dk_154 0 7 (dk_at dksX18_holds_2 0 rfl rfl)
theorem dX18_holds_46 : decode cX18_holds 46 = .ok (.iconst 1, 1) := dk_4 (dk_at dksX18_holds_2 3 rfl rfl)
theorem dX18_holds_47 : decode cX18_holds 47 = .ok (.goto 4, 3) := dk_167 0 4 (dk_at dksX18_holds_2 4 rfl rfl)
theorem dX18_holds_50 : decode cX18_holds 50 = .ok (.iconst 0, 1) := dk_3 (dk_at dksX18_holds_2 7 rfl rfl)
theorem dX18_holds_51 : decode cX18_holds 51 = .ok (.ireturn, 1) := dk_172 (dk_at dksX18_holds_2 8 rfl rfl)
theorem dX18_holds_52 : decode cX18_holds 52 = .ok (.iinc 2 1, 3) := dk_132 2 1 (dk_at dksX18_holds_2 9 rfl rfl)
theorem dX18_holds_55 : decode cX18_holds 55 = .ok (.goto (-53), 3) := dk_167 255 203 (dk_at dksX18_holds_2 12 rfl rfl)
theorem dX18_holds_58 : decode cX18_holds 58 = .ok (.aload_n 0, 1) := dk_42 (dk_at dksX18_holds_2 15 rfl rfl)
theorem dX18_holds_59 : decode cX18_holds 59 = .ok (.getfield 18, 3) := dk_180 0 18 (dk_at dksX18_holds_2 16 rfl rfl)
theorem dX18_holds_62 : decode cX18_holds 62 = .ok (.ireturn, 1) := dk_172 (dk_at dksX18_holds_2 19 rfl rfl)
theorem q213 : (Jvm.Cond.initialized "BreathTown$Facts") ∈ lw_all := lw_g (lw_at lw_m1 37 rfl) rfl
theorem q861 : (Jvm.Cond.selects "BreathTown$Facts" ({ cls := "java/lang/Object", name := "getClass", desc := "()Ljava/lang/Class;" } : Jvm.MethodName) ({ cls := "java/lang/Object", name := "getClass", desc := "()Ljava/lang/Class;" } : Jvm.MethodName)) ∈ lw_all := lw_g (lw_at lw_m3 205 rfl) rfl
theorem q1561 : (Jvm.Cond.instantiable "BreathTown$Facts" (2 : Nat)) ∈ lw_all := lw_g (lw_at lw_m6 185 rfl) rfl
theorem q1563 : (Jvm.Cond.instanceMethod ({ cls := "BreathTown$Facts", name := "<init>", desc := "(Z)V" } : Jvm.MethodName)) ∈ lw_all := lw_g (lw_at lw_m6 187 rfl) rfl
theorem q1564 : (Jvm.Cond.code ({ cls := "BreathTown$Facts", name := "<init>", desc := "(Z)V" } : Jvm.MethodName) prog_5_method_1_code (2 : Nat) (Option.none : Option Jvm.ClassFile.FieldType)) ∈ lw_all := lw_g (lw_at lw_m6 188 rfl) rfl
theorem q1565 : (Jvm.Cond.methodLinkNest "BreathTown$Facts" (1 : Nat) ({ cls := "BreathTown$Test", name := "<init>", desc := "()V" } : Jvm.MethodName) "BreathTown") ∈ lw_tbl := lw_at lw_m6 189 rfl
theorem q1569 : (Jvm.Cond.classLink "BreathTown$Facts" (7 : Nat) "java/util/ArrayList") ∈ lw_all := lw_g (lw_at lw_m6 193 rfl) rfl
theorem q1570 : (Jvm.Cond.methodLink "BreathTown$Facts" (9 : Nat) ({ cls := "java/util/ArrayList", name := "<init>", desc := "(I)V" } : Jvm.MethodName)) ∈ lw_all := lw_g (lw_at lw_m6 194 rfl) rfl
theorem q1571 : (Jvm.Cond.fieldLink "BreathTown$Facts" (12 : Nat) "BreathTown$Facts" "tests" "Ljava/util/List;") ∈ lw_all := lw_g (lw_at lw_m6 195 rfl) rfl
theorem q1573 : (Jvm.Cond.fieldLink "BreathTown$Facts" (18 : Nat) "BreathTown$Facts" "all" "Z") ∈ lw_all := lw_g (lw_at lw_m6 197 rfl) rfl
theorem q1574 : (Jvm.Cond.laysFinal "BreathTown$Facts" "BreathTown$Facts" "tests" "Ljava/util/List;") ∈ lw_all := lw_g (lw_at lw_m6 198 rfl) rfl
theorem q1575 : (Jvm.Cond.soleField "BreathTown$Facts" "tests") ∈ lw_all := lw_g (lw_at lw_m6 199 rfl) rfl
theorem q1576 : (Jvm.Cond.laysFinal "BreathTown$Facts" "BreathTown$Facts" "all" "Z") ∈ lw_all := lw_g (lw_at lw_m6 200 rfl) rfl
theorem q1577 : (Jvm.Cond.soleField "BreathTown$Facts" "all") ∈ lw_all := lw_g (lw_at lw_m6 201 rfl) rfl
theorem q1578 : (Jvm.Cond.superclass "BreathTown$Facts" "BreathTown$Test") ∈ lw_all := lw_g (lw_at lw_m6 202 rfl) rfl
theorem q1660 : (Jvm.Cond.selects "BreathTown$Facts" ({ cls := "BreathTown$Test", name := "holds", desc := "(LBreathTown$Moment;)Z" } : Jvm.MethodName) ({ cls := "BreathTown$Facts", name := "holds", desc := "(LBreathTown$Moment;)Z" } : Jvm.MethodName)) ∈ lw_all := lw_g (lw_at lw_m7 44 rfl) rfl
theorem q1661 : (Jvm.Cond.instanceMethod ({ cls := "BreathTown$Facts", name := "holds", desc := "(LBreathTown$Moment;)Z" } : Jvm.MethodName)) ∈ lw_all := lw_g (lw_at lw_m7 45 rfl) rfl
theorem q1662 : (Jvm.Cond.code ({ cls := "BreathTown$Facts", name := "holds", desc := "(LBreathTown$Moment;)Z" } : Jvm.MethodName) prog_5_method_2_code (3 : Nat) (Option.some Jvm.ClassFile.FieldType.boolean)) ∈ lw_all := lw_g (lw_at lw_m7 46 rfl) rfl
theorem q1663 : (Jvm.Cond.interfaceEntry "BreathTown$Facts" (22 : Nat)) ∈ lw_tbl := lw_at lw_m7 47 rfl
theorem q1664 : (Jvm.Cond.methodLink "BreathTown$Facts" (22 : Nat) ({ cls := "java/util/List", name := "size", desc := "()I" } : Jvm.MethodName)) ∈ lw_all := lw_g (lw_at lw_m7 48 rfl) rfl
theorem q1665 : (Jvm.Cond.interfaceEntry "BreathTown$Facts" (28 : Nat)) ∈ lw_tbl := lw_at lw_m7 49 rfl
theorem q1666 : (Jvm.Cond.methodLink "BreathTown$Facts" (28 : Nat) ({ cls := "java/util/List", name := "get", desc := "(I)Ljava/lang/Object;" } : Jvm.MethodName)) ∈ lw_all := lw_g (lw_at lw_m7 50 rfl) rfl
theorem q1667 : (Jvm.Cond.classLink "BreathTown$Facts" (2 : Nat) "BreathTown$Test") ∈ lw_all := lw_g (lw_at lw_m7 51 rfl) rfl
theorem q1668 : (Jvm.Cond.methodLink "BreathTown$Facts" (32 : Nat) ({ cls := "BreathTown$Test", name := "holds", desc := "(LBreathTown$Moment;)Z" } : Jvm.MethodName)) ∈ lw_all := lw_g (lw_at lw_m7 52 rfl) rfl
theorem q2651 : (Jvm.Cond.castable "BreathTown$Facts" "BreathTown$Test") ∈ lw_tbl := lw_at lw_m11 75 rfl
theorem q2674 : (Jvm.Cond.castable "BreathTown$Facts" "java/lang/Object") ∈ lw_tbl := lw_at lw_m11 98 rfl
theorem in_X18 : ∀ w ∈ wsX180, w ∈ lw_all := lw_in wsX180 [1574, 1576] (by decide +kernel) (by decide +kernel)
/-! BreathTown$Not -/
set_option maxRecDepth 100000
def RX19 : String := "BreathTown$Not"
def TX19 : u_T := fun k => match k with
  | _ => ("BreathTown$Not", "test", "LBreathTown$Test;", true)
def tyX19 : Nat → FieldType := fun k => match k with
  | _ => .object "BreathTown$Test"
abbrev wsX190 : List Cond := u_ws RX19 TX19 1
theorem nmX19 : ∀ a, a < 1 → ∀ b, b < 1 → a ≠ b → (TX19 a).2.1 ≠ (TX19 b).2.1 := by decide +kernel
theorem tyX19_ok : ∀ k, k < 1 → parseFieldDescriptor (TX19 k).2.2.1 = some (tyX19 k) := by decide +kernel
abbrev cX19_init : ByteArray := prog_11_method_1_code
def yX19_init : MethodName := ⟨RX19, "<init>", "(LBreathTown$Test;)V"⟩
def dkwX19_init_0 : List UInt8 := [42, 183, 0, 1, 42, 43, 181, 0, 7, 177]
abbrev dktX19_init_0 : List UInt8 := dkwX19_init_0 ++ []
theorem dksX19_init_0 : cX19_init.data.toList.drop 0 = dktX19_init_0 := by decide +kernel
theorem dX19_init_0 : decode cX19_init 0 = .ok (.aload_n 0, 1) := dk_42 (dk_at dksX19_init_0 0 rfl rfl)
theorem dX19_init_1 : decode cX19_init 1 = .ok (.invokespecial 1, 3) := dk_183 0 1 (dk_at dksX19_init_0 1 rfl rfl)
theorem dX19_init_4 : decode cX19_init 4 = .ok (.aload_n 0, 1) := dk_42 (dk_at dksX19_init_0 4 rfl rfl)
theorem dX19_init_5 : decode cX19_init 5 = .ok (.aload_n 1, 1) := dk_43 (dk_at dksX19_init_0 5 rfl rfl)
theorem dX19_init_6 : decode cX19_init 6 = .ok (.putfield 7, 3) := dk_181 0 7 (dk_at dksX19_init_0 6 rfl rfl)
theorem dX19_init_9 : decode cX19_init 9 = .ok (.return_, 1) := dk_177 (dk_at dksX19_init_0 9 rfl rfl)
abbrev cX19_holds : ByteArray := prog_11_method_2_code
def yX19_holds : MethodName := ⟨RX19, "holds", "(LBreathTown$Moment;)Z"⟩
def dkwX19_holds_0 : List UInt8 := [42, 180, 0, 7, 43, 182, 0, 13, 154, 0, 7, 4, 167, 0, 4, 3, 172]
abbrev dktX19_holds_0 : List UInt8 := dkwX19_holds_0 ++ []
theorem dksX19_holds_0 : cX19_holds.data.toList.drop 0 = dktX19_holds_0 := by decide +kernel
theorem dX19_holds_0 : decode cX19_holds 0 = .ok (.aload_n 0, 1) := dk_42 (dk_at dksX19_holds_0 0 rfl rfl)
theorem dX19_holds_1 : decode cX19_holds 1 = .ok (.getfield 7, 3) := dk_180 0 7 (dk_at dksX19_holds_0 1 rfl rfl)
theorem dX19_holds_4 : decode cX19_holds 4 = .ok (.aload_n 1, 1) := dk_43 (dk_at dksX19_holds_0 4 rfl rfl)
theorem dX19_holds_5 : decode cX19_holds 5 = .ok (.invokevirtual 13, 3) := dk_182 0 13 (dk_at dksX19_holds_0 5 rfl rfl)
theorem dX19_holds_8 : decode cX19_holds 8 = .ok (.ifCond .ne 7, 3) := dk_154 0 7 (dk_at dksX19_holds_0 8 rfl rfl)
theorem dX19_holds_11 : decode cX19_holds 11 = .ok (.iconst 1, 1) := dk_4 (dk_at dksX19_holds_0 11 rfl rfl)
theorem dX19_holds_12 : decode cX19_holds 12 = .ok (.goto 4, 3) := dk_167 0 4 (dk_at dksX19_holds_0 12 rfl rfl)
theorem dX19_holds_15 : decode cX19_holds 15 = .ok (.iconst 0, 1) := dk_3 (dk_at dksX19_holds_0 15 rfl rfl)
theorem dX19_holds_16 : decode cX19_holds 16 = .ok (.ireturn, 1) := dk_172 (dk_at dksX19_holds_0 16 rfl rfl)
theorem q214 : (Jvm.Cond.initialized "BreathTown$Not") ∈ lw_all := lw_g (lw_at lw_m1 38 rfl) rfl
theorem q867 : (Jvm.Cond.selects "BreathTown$Not" ({ cls := "java/lang/Object", name := "getClass", desc := "()Ljava/lang/Class;" } : Jvm.MethodName) ({ cls := "java/lang/Object", name := "getClass", desc := "()Ljava/lang/Class;" } : Jvm.MethodName)) ∈ lw_all := lw_g (lw_at lw_m3 211 rfl) rfl
theorem q1593 : (Jvm.Cond.instantiable "BreathTown$Not" (1 : Nat)) ∈ lw_all := lw_g (lw_at lw_m6 217 rfl) rfl
theorem q1595 : (Jvm.Cond.instanceMethod ({ cls := "BreathTown$Not", name := "<init>", desc := "(LBreathTown$Test;)V" } : Jvm.MethodName)) ∈ lw_all := lw_g (lw_at lw_m6 219 rfl) rfl
theorem q1596 : (Jvm.Cond.code ({ cls := "BreathTown$Not", name := "<init>", desc := "(LBreathTown$Test;)V" } : Jvm.MethodName) prog_11_method_1_code (2 : Nat) (Option.none : Option Jvm.ClassFile.FieldType)) ∈ lw_all := lw_g (lw_at lw_m6 220 rfl) rfl
theorem q1597 : (Jvm.Cond.methodLinkNest "BreathTown$Not" (1 : Nat) ({ cls := "BreathTown$Test", name := "<init>", desc := "()V" } : Jvm.MethodName) "BreathTown") ∈ lw_tbl := lw_at lw_m6 221 rfl
theorem q1598 : (Jvm.Cond.fieldLink "BreathTown$Not" (7 : Nat) "BreathTown$Not" "test" "LBreathTown$Test;") ∈ lw_all := lw_g (lw_at lw_m6 222 rfl) rfl
theorem q1599 : (Jvm.Cond.laysFinal "BreathTown$Not" "BreathTown$Not" "test" "LBreathTown$Test;") ∈ lw_all := lw_g (lw_at lw_m6 223 rfl) rfl
theorem q1600 : (Jvm.Cond.soleField "BreathTown$Not" "test") ∈ lw_all := lw_g (lw_at lw_m6 224 rfl) rfl
theorem q1601 : (Jvm.Cond.superclass "BreathTown$Not" "BreathTown$Test") ∈ lw_all := lw_g (lw_at lw_m6 225 rfl) rfl
theorem q1669 : (Jvm.Cond.instanceMethod ({ cls := "BreathTown$Not", name := "holds", desc := "(LBreathTown$Moment;)Z" } : Jvm.MethodName)) ∈ lw_all := lw_g (lw_at lw_m7 53 rfl) rfl
theorem q1670 : (Jvm.Cond.code ({ cls := "BreathTown$Not", name := "holds", desc := "(LBreathTown$Moment;)Z" } : Jvm.MethodName) prog_11_method_2_code (2 : Nat) (Option.some Jvm.ClassFile.FieldType.boolean)) ∈ lw_all := lw_g (lw_at lw_m7 54 rfl) rfl
theorem q1671 : (Jvm.Cond.methodLink "BreathTown$Not" (13 : Nat) ({ cls := "BreathTown$Test", name := "holds", desc := "(LBreathTown$Moment;)Z" } : Jvm.MethodName)) ∈ lw_all := lw_g (lw_at lw_m7 55 rfl) rfl
theorem q1675 : (Jvm.Cond.selects "BreathTown$Not" ({ cls := "BreathTown$Test", name := "holds", desc := "(LBreathTown$Moment;)Z" } : Jvm.MethodName) ({ cls := "BreathTown$Not", name := "holds", desc := "(LBreathTown$Moment;)Z" } : Jvm.MethodName)) ∈ lw_all := lw_g (lw_at lw_m7 59 rfl) rfl
theorem q2652 : (Jvm.Cond.castable "BreathTown$Not" "BreathTown$Test") ∈ lw_tbl := lw_at lw_m11 76 rfl
theorem q2675 : (Jvm.Cond.castable "BreathTown$Not" "java/lang/Object") ∈ lw_tbl := lw_at lw_m11 99 rfl
theorem in_X19 : ∀ w ∈ wsX190, w ∈ lw_all := lw_in wsX190 [1599] (by decide +kernel) (by decide +kernel)
/-! BreathTown$All -/
set_option maxRecDepth 100000
def RX20 : String := "BreathTown$All"
abbrev cX20_init : ByteArray := prog_2_method_1_code
def yX20_init : MethodName := ⟨RX20, "<init>", "()V"⟩
theorem dX20_init_0 : decode cX20_init 0 = .ok (.aload_n 0, 1) := by decide +kernel
theorem dX20_init_1 : decode cX20_init 1 = .ok (.invokespecial 1, 3) := by decide +kernel
theorem dX20_init_4 : decode cX20_init 4 = .ok (.return_, 1) := by decide +kernel
abbrev cX20_holds : ByteArray := prog_2_method_2_code
def yX20_holds : MethodName := ⟨RX20, "holds", "(LBreathTown$Moment;)Z"⟩
theorem dX20_holds_0 : decode cX20_holds 0 = .ok (.iconst 1, 1) := by decide +kernel
theorem dX20_holds_1 : decode cX20_holds 1 = .ok (.ireturn, 1) := by decide +kernel
theorem q215 : (Jvm.Cond.initialized "BreathTown$All") ∈ lw_all := lw_g (lw_at lw_m1 39 rfl) rfl
theorem q858 : (Jvm.Cond.selects "BreathTown$All" ({ cls := "java/lang/Object", name := "getClass", desc := "()Ljava/lang/Class;" } : Jvm.MethodName) ({ cls := "java/lang/Object", name := "getClass", desc := "()Ljava/lang/Class;" } : Jvm.MethodName)) ∈ lw_all := lw_g (lw_at lw_m3 202 rfl) rfl
theorem q1604 : (Jvm.Cond.instantiable "BreathTown$All" (0 : Nat)) ∈ lw_all := lw_g (lw_at lw_m6 228 rfl) rfl
theorem q1606 : (Jvm.Cond.instanceMethod ({ cls := "BreathTown$All", name := "<init>", desc := "()V" } : Jvm.MethodName)) ∈ lw_all := lw_g (lw_at lw_m6 230 rfl) rfl
theorem q1607 : (Jvm.Cond.code ({ cls := "BreathTown$All", name := "<init>", desc := "()V" } : Jvm.MethodName) prog_2_method_1_code (1 : Nat) (Option.none : Option Jvm.ClassFile.FieldType)) ∈ lw_all := lw_g (lw_at lw_m6 231 rfl) rfl
theorem q1608 : (Jvm.Cond.methodLinkNest "BreathTown$All" (1 : Nat) ({ cls := "BreathTown$Test", name := "<init>", desc := "()V" } : Jvm.MethodName) "BreathTown") ∈ lw_tbl := lw_at lw_m6 232 rfl
theorem q1609 : (Jvm.Cond.superclass "BreathTown$All" "BreathTown$Test") ∈ lw_all := lw_g (lw_at lw_m6 233 rfl) rfl
theorem q1657 : (Jvm.Cond.selects "BreathTown$All" ({ cls := "BreathTown$Test", name := "holds", desc := "(LBreathTown$Moment;)Z" } : Jvm.MethodName) ({ cls := "BreathTown$All", name := "holds", desc := "(LBreathTown$Moment;)Z" } : Jvm.MethodName)) ∈ lw_all := lw_g (lw_at lw_m7 41 rfl) rfl
theorem q1658 : (Jvm.Cond.instanceMethod ({ cls := "BreathTown$All", name := "holds", desc := "(LBreathTown$Moment;)Z" } : Jvm.MethodName)) ∈ lw_all := lw_g (lw_at lw_m7 42 rfl) rfl
theorem q1659 : (Jvm.Cond.code ({ cls := "BreathTown$All", name := "holds", desc := "(LBreathTown$Moment;)Z" } : Jvm.MethodName) prog_2_method_2_code (2 : Nat) (Option.some Jvm.ClassFile.FieldType.boolean)) ∈ lw_all := lw_g (lw_at lw_m7 43 rfl) rfl
theorem q2650 : (Jvm.Cond.castable "BreathTown$All" "BreathTown$Test") ∈ lw_tbl := lw_at lw_m11 74 rfl
theorem q2676 : (Jvm.Cond.castable "BreathTown$All" "java/lang/Object") ∈ lw_tbl := lw_at lw_m11 100 rfl
/-! BreathTown$Than -/
set_option maxRecDepth 100000
def RX21 : String := "BreathTown$Than"
def TX21 : u_T := fun k => match k with
  | 0 => ("BreathTown$Than", "a", "LBreathTown$Value;", true)
  | 1 => ("BreathTown$Than", "b", "LBreathTown$Value;", true)
  | _ => ("BreathTown$Than", "sign", "I", true)
def tyX21 : Nat → FieldType := fun k => match k with
  | 0 => .object "BreathTown$Value"
  | 1 => .object "BreathTown$Value"
  | _ => .int
abbrev wsX210 : List Cond := u_ws RX21 TX21 3
theorem nmX21 : ∀ a, a < 3 → ∀ b, b < 3 → a ≠ b → (TX21 a).2.1 ≠ (TX21 b).2.1 := by decide +kernel
theorem tyX21_ok : ∀ k, k < 3 → parseFieldDescriptor (TX21 k).2.2.1 = some (tyX21 k) := by decide +kernel
abbrev cX21_init : ByteArray := prog_18_method_1_code
def yX21_init : MethodName := ⟨RX21, "<init>", "(LBreathTown$Value;ILBreathTown$Value;)V"⟩
def dkwX21_init_0 : List UInt8 := [42, 183, 0, 1, 42, 43, 181, 0, 7, 42, 28, 181, 0, 13, 42, 45, 181, 0, 17, 177]
abbrev dktX21_init_0 : List UInt8 := dkwX21_init_0 ++ []
theorem dksX21_init_0 : cX21_init.data.toList.drop 0 = dktX21_init_0 := by decide +kernel
theorem dX21_init_0 : decode cX21_init 0 = .ok (.aload_n 0, 1) := dk_42 (dk_at dksX21_init_0 0 rfl rfl)
theorem dX21_init_1 : decode cX21_init 1 = .ok (.invokespecial 1, 3) := dk_183 0 1 (dk_at dksX21_init_0 1 rfl rfl)
theorem dX21_init_4 : decode cX21_init 4 = .ok (.aload_n 0, 1) := dk_42 (dk_at dksX21_init_0 4 rfl rfl)
theorem dX21_init_5 : decode cX21_init 5 = .ok (.aload_n 1, 1) := dk_43 (dk_at dksX21_init_0 5 rfl rfl)
theorem dX21_init_6 : decode cX21_init 6 = .ok (.putfield 7, 3) := dk_181 0 7 (dk_at dksX21_init_0 6 rfl rfl)
theorem dX21_init_9 : decode cX21_init 9 = .ok (.aload_n 0, 1) := dk_42 (dk_at dksX21_init_0 9 rfl rfl)
theorem dX21_init_10 : decode cX21_init 10 = .ok (.iload_n 2, 1) := dk_28 (dk_at dksX21_init_0 10 rfl rfl)
theorem dX21_init_11 : decode cX21_init 11 = .ok (.putfield 13, 3) := dk_181 0 13 (dk_at dksX21_init_0 11 rfl rfl)
theorem dX21_init_14 : decode cX21_init 14 = .ok (.aload_n 0, 1) := dk_42 (dk_at dksX21_init_0 14 rfl rfl)
theorem dX21_init_15 : decode cX21_init 15 = .ok (.aload_n 3, 1) := dk_45 (dk_at dksX21_init_0 15 rfl rfl)
theorem dX21_init_16 : decode cX21_init 16 = .ok (.putfield 17, 3) := dk_181 0 17 (dk_at dksX21_init_0 16 rfl rfl)
theorem dX21_init_19 : decode cX21_init 19 = .ok (.return_, 1) := dk_177 (dk_at dksX21_init_0 19 rfl rfl)
abbrev cX21_holds : ByteArray := prog_18_method_2_code
def yX21_holds : MethodName := ⟨RX21, "holds", "(LBreathTown$Moment;)Z"⟩
def dkwX21_holds_3 : List UInt8 := [154, 0, 7, 4, 167, 0, 4, 3, 172]
abbrev dktX21_holds_3 : List UInt8 := dkwX21_holds_3 ++ []
def dkwX21_holds_2 : List UInt8 := [16, 62, 160, 0, 18, 32, 22, 4, 148, 158, 0, 7, 4, 167, 0, 19, 3, 167, 0, 15, 32, 22, 4, 148]
abbrev dktX21_holds_2 : List UInt8 := dkwX21_holds_2 ++ dktX21_holds_3
def dkwX21_holds_1 : List UInt8 := [16, 60, 160, 0, 18, 32, 22, 4, 148, 156, 0, 7, 4, 167, 0, 43, 3, 167, 0, 39, 42, 180, 0, 13]
abbrev dktX21_holds_1 : List UInt8 := dkwX21_holds_1 ++ dktX21_holds_2
def dkwX21_holds_0 : List UInt8 := [42, 180, 0, 7, 43, 182, 0, 20, 65, 42, 180, 0, 17, 43, 182, 0, 20, 55, 4, 42, 180, 0, 13]
abbrev dktX21_holds_0 : List UInt8 := dkwX21_holds_0 ++ dktX21_holds_1
theorem dksX21_holds_0 : cX21_holds.data.toList.drop 0 = dktX21_holds_0 := by decide +kernel
theorem dksX21_holds_1 : cX21_holds.data.toList.drop 23 = dktX21_holds_1 := dk_seg dksX21_holds_0 23 rfl rfl
theorem dksX21_holds_2 : cX21_holds.data.toList.drop 47 = dktX21_holds_2 := dk_seg dksX21_holds_1 24 rfl rfl
theorem dksX21_holds_3 : cX21_holds.data.toList.drop 71 = dktX21_holds_3 := dk_seg dksX21_holds_2 24 rfl rfl
theorem dX21_holds_0 : decode cX21_holds 0 = .ok (.aload_n 0, 1) := dk_42 (dk_at dksX21_holds_0 0 rfl rfl)
theorem dX21_holds_1 : decode cX21_holds 1 = .ok (.getfield 7, 3) := dk_180 0 7 (dk_at dksX21_holds_0 1 rfl rfl)
theorem dX21_holds_4 : decode cX21_holds 4 = .ok (.aload_n 1, 1) := dk_43 (dk_at dksX21_holds_0 4 rfl rfl)
theorem dX21_holds_5 : decode cX21_holds 5 = .ok (.invokevirtual 20, 3) := dk_182 0 20 (dk_at dksX21_holds_0 5 rfl rfl)
theorem dX21_holds_8 : decode cX21_holds 8 = .ok (.lstore_n 2, 1) := dk_65 (dk_at dksX21_holds_0 8 rfl rfl)
theorem dX21_holds_9 : decode cX21_holds 9 = .ok (.aload_n 0, 1) := dk_42 (dk_at dksX21_holds_0 9 rfl rfl)
theorem dX21_holds_10 : decode cX21_holds 10 = .ok (.getfield 17, 3) := dk_180 0 17 (dk_at dksX21_holds_0 10 rfl rfl)
theorem dX21_holds_13 : decode cX21_holds 13 = .ok (.aload_n 1, 1) := dk_43 (dk_at dksX21_holds_0 13 rfl rfl)
theorem dX21_holds_14 : decode cX21_holds 14 = .ok (.invokevirtual 20, 3) := dk_182 0 20 (dk_at dksX21_holds_0 14 rfl rfl)
theorem dX21_holds_17 : decode cX21_holds 17 = .ok (.lstore 4, 2) := dk_55 4 (dk_at dksX21_holds_0 17 rfl rfl)
theorem dX21_holds_19 : decode cX21_holds 19 = .ok (.aload_n 0, 1) := dk_42 (dk_at dksX21_holds_0 19 rfl rfl)
theorem dX21_holds_20 : decode cX21_holds 20 = .ok (.getfield 13, 3) := dk_180 0 13 (dk_at dksX21_holds_0 20 rfl rfl)
theorem dX21_holds_23 : decode cX21_holds 23 = .ok (.bipush 60, 2) := dk_16 60 (dk_at dksX21_holds_1 0 rfl rfl)
theorem dX21_holds_25 : decode cX21_holds 25 = .ok (.if_icmp .ne 18, 3) := dk_160 0 18 (dk_at dksX21_holds_1 2 rfl rfl)
theorem dX21_holds_28 : decode cX21_holds 28 = .ok (.lload_n 2, 1) := dk_32 (dk_at dksX21_holds_1 5 rfl rfl)
theorem dX21_holds_29 : decode cX21_holds 29 = .ok (.lload 4, 2) := dk_22 4 (dk_at dksX21_holds_1 6 rfl rfl)
theorem dX21_holds_31 : decode cX21_holds 31 = .ok (.lcmp, 1) := dk_148 (dk_at dksX21_holds_1 8 rfl rfl)
theorem dX21_holds_32 : decode cX21_holds 32 = .ok (.ifCond .ge 7, 3) := dk_156 0 7 (dk_at dksX21_holds_1 9 rfl rfl)
theorem dX21_holds_35 : decode cX21_holds 35 = .ok (.iconst 1, 1) := dk_4 (dk_at dksX21_holds_1 12 rfl rfl)
theorem dX21_holds_36 : decode cX21_holds 36 = .ok (.goto 43, 3) := dk_167 0 43 (dk_at dksX21_holds_1 13 rfl rfl)
theorem dX21_holds_39 : decode cX21_holds 39 = .ok (.iconst 0, 1) := dk_3 (dk_at dksX21_holds_1 16 rfl rfl)
theorem dX21_holds_40 : decode cX21_holds 40 = .ok (.goto 39, 3) := dk_167 0 39 (dk_at dksX21_holds_1 17 rfl rfl)
theorem dX21_holds_43 : decode cX21_holds 43 = .ok (.aload_n 0, 1) := dk_42 (dk_at dksX21_holds_1 20 rfl rfl)
theorem dX21_holds_44 : decode cX21_holds 44 = .ok (.getfield 13, 3) := dk_180 0 13 (dk_at dksX21_holds_1 21 rfl rfl)
theorem dX21_holds_47 : decode cX21_holds 47 = .ok (.bipush 62, 2) := dk_16 62 (dk_at dksX21_holds_2 0 rfl rfl)
theorem dX21_holds_49 : decode cX21_holds 49 = .ok (.if_icmp .ne 18, 3) := dk_160 0 18 (dk_at dksX21_holds_2 2 rfl rfl)
theorem dX21_holds_52 : decode cX21_holds 52 = .ok (.lload_n 2, 1) := dk_32 (dk_at dksX21_holds_2 5 rfl rfl)
theorem dX21_holds_53 : decode cX21_holds 53 = .ok (.lload 4, 2) := dk_22 4 (dk_at dksX21_holds_2 6 rfl rfl)
theorem dX21_holds_55 : decode cX21_holds 55 = .ok (.lcmp, 1) := dk_148 (dk_at dksX21_holds_2 8 rfl rfl)
theorem dX21_holds_56 : decode cX21_holds 56 = .ok (.ifCond .le 7, 3) := dk_158 0 7 (dk_at dksX21_holds_2 9 rfl rfl)
theorem dX21_holds_59 : decode cX21_holds 59 = .ok (.iconst 1, 1) := dk_4 (dk_at dksX21_holds_2 12 rfl rfl)
theorem dX21_holds_60 : decode cX21_holds 60 = .ok (.goto 19, 3) := dk_167 0 19 (dk_at dksX21_holds_2 13 rfl rfl)
theorem dX21_holds_63 : decode cX21_holds 63 = .ok (.iconst 0, 1) := dk_3 (dk_at dksX21_holds_2 16 rfl rfl)
theorem dX21_holds_64 : decode cX21_holds 64 = .ok (.goto 15, 3) := dk_167 0 15 (dk_at dksX21_holds_2 17 rfl rfl)
theorem dX21_holds_67 : decode cX21_holds 67 = .ok (.lload_n 2, 1) := dk_32 (dk_at dksX21_holds_2 20 rfl rfl)
theorem dX21_holds_68 : decode cX21_holds 68 = .ok (.lload 4, 2) := dk_22 4 (dk_at dksX21_holds_2 21 rfl rfl)
theorem dX21_holds_70 : decode cX21_holds 70 = .ok (.lcmp, 1) := dk_148 (dk_at dksX21_holds_2 23 rfl rfl)
theorem dX21_holds_71 : decode cX21_holds 71 = .ok (.ifCond .ne 7, 3) := dk_154 0 7 (dk_at dksX21_holds_3 0 rfl rfl)
theorem dX21_holds_74 : decode cX21_holds 74 = .ok (.iconst 1, 1) := dk_4 (dk_at dksX21_holds_3 3 rfl rfl)
theorem dX21_holds_75 : decode cX21_holds 75 = .ok (.goto 4, 3) := dk_167 0 4 (dk_at dksX21_holds_3 4 rfl rfl)
theorem dX21_holds_78 : decode cX21_holds 78 = .ok (.iconst 0, 1) := dk_3 (dk_at dksX21_holds_3 7 rfl rfl)
theorem dX21_holds_79 : decode cX21_holds 79 = .ok (.ireturn, 1) := dk_172 (dk_at dksX21_holds_3 8 rfl rfl)
theorem q216 : (Jvm.Cond.initialized "BreathTown$Than") ∈ lw_all := lw_g (lw_at lw_m1 40 rfl) rfl
theorem q873 : (Jvm.Cond.selects "BreathTown$Than" ({ cls := "java/lang/Object", name := "getClass", desc := "()Ljava/lang/Class;" } : Jvm.MethodName) ({ cls := "java/lang/Object", name := "getClass", desc := "()Ljava/lang/Class;" } : Jvm.MethodName)) ∈ lw_all := lw_g (lw_at lw_m3 217 rfl) rfl
theorem q1611 : (Jvm.Cond.instantiable "BreathTown$Than" (3 : Nat)) ∈ lw_all := lw_g (lw_at lw_m6 235 rfl) rfl
theorem q1613 : (Jvm.Cond.instanceMethod ({ cls := "BreathTown$Than", name := "<init>", desc := "(LBreathTown$Value;ILBreathTown$Value;)V" } : Jvm.MethodName)) ∈ lw_all := lw_g (lw_at lw_m6 237 rfl) rfl
theorem q1614 : (Jvm.Cond.code ({ cls := "BreathTown$Than", name := "<init>", desc := "(LBreathTown$Value;ILBreathTown$Value;)V" } : Jvm.MethodName) prog_18_method_1_code (4 : Nat) (Option.none : Option Jvm.ClassFile.FieldType)) ∈ lw_all := lw_g (lw_at lw_m6 238 rfl) rfl
theorem q1615 : (Jvm.Cond.methodLinkNest "BreathTown$Than" (1 : Nat) ({ cls := "BreathTown$Test", name := "<init>", desc := "()V" } : Jvm.MethodName) "BreathTown") ∈ lw_tbl := lw_at lw_m6 239 rfl
theorem q1616 : (Jvm.Cond.fieldLink "BreathTown$Than" (7 : Nat) "BreathTown$Than" "a" "LBreathTown$Value;") ∈ lw_all := lw_g (lw_at lw_m7 0 rfl) rfl
theorem q1617 : (Jvm.Cond.fieldLink "BreathTown$Than" (17 : Nat) "BreathTown$Than" "b" "LBreathTown$Value;") ∈ lw_all := lw_g (lw_at lw_m7 1 rfl) rfl
theorem q1618 : (Jvm.Cond.fieldLink "BreathTown$Than" (13 : Nat) "BreathTown$Than" "sign" "I") ∈ lw_all := lw_g (lw_at lw_m7 2 rfl) rfl
theorem q1619 : (Jvm.Cond.laysFinal "BreathTown$Than" "BreathTown$Than" "a" "LBreathTown$Value;") ∈ lw_all := lw_g (lw_at lw_m7 3 rfl) rfl
theorem q1620 : (Jvm.Cond.soleField "BreathTown$Than" "a") ∈ lw_all := lw_g (lw_at lw_m7 4 rfl) rfl
theorem q1621 : (Jvm.Cond.laysFinal "BreathTown$Than" "BreathTown$Than" "b" "LBreathTown$Value;") ∈ lw_all := lw_g (lw_at lw_m7 5 rfl) rfl
theorem q1622 : (Jvm.Cond.soleField "BreathTown$Than" "b") ∈ lw_all := lw_g (lw_at lw_m7 6 rfl) rfl
theorem q1623 : (Jvm.Cond.laysFinal "BreathTown$Than" "BreathTown$Than" "sign" "I") ∈ lw_all := lw_g (lw_at lw_m7 7 rfl) rfl
theorem q1624 : (Jvm.Cond.soleField "BreathTown$Than" "sign") ∈ lw_all := lw_g (lw_at lw_m7 8 rfl) rfl
theorem q1625 : (Jvm.Cond.superclass "BreathTown$Than" "BreathTown$Test") ∈ lw_all := lw_g (lw_at lw_m7 9 rfl) rfl
theorem q1672 : (Jvm.Cond.instanceMethod ({ cls := "BreathTown$Than", name := "holds", desc := "(LBreathTown$Moment;)Z" } : Jvm.MethodName)) ∈ lw_all := lw_g (lw_at lw_m7 56 rfl) rfl
theorem q1673 : (Jvm.Cond.code ({ cls := "BreathTown$Than", name := "holds", desc := "(LBreathTown$Moment;)Z" } : Jvm.MethodName) prog_18_method_2_code (6 : Nat) (Option.some Jvm.ClassFile.FieldType.boolean)) ∈ lw_all := lw_g (lw_at lw_m7 57 rfl) rfl
theorem q1674 : (Jvm.Cond.methodLink "BreathTown$Than" (20 : Nat) ({ cls := "BreathTown$Value", name := "at", desc := "(LBreathTown$Moment;)J" } : Jvm.MethodName)) ∈ lw_all := lw_g (lw_at lw_m7 58 rfl) rfl
theorem q1676 : (Jvm.Cond.selects "BreathTown$Than" ({ cls := "BreathTown$Test", name := "holds", desc := "(LBreathTown$Moment;)Z" } : Jvm.MethodName) ({ cls := "BreathTown$Than", name := "holds", desc := "(LBreathTown$Moment;)Z" } : Jvm.MethodName)) ∈ lw_all := lw_g (lw_at lw_m7 60 rfl) rfl
theorem q2653 : (Jvm.Cond.castable "BreathTown$Than" "BreathTown$Test") ∈ lw_tbl := lw_at lw_m11 77 rfl
theorem q2677 : (Jvm.Cond.castable "BreathTown$Than" "java/lang/Object") ∈ lw_tbl := lw_at lw_m11 101 rfl
theorem in_X21 : ∀ w ∈ wsX210, w ∈ lw_all := lw_in wsX210 [1619, 1621, 1623] (by decide +kernel) (by decide +kernel)
