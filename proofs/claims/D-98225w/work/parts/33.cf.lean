set_option maxRecDepth 100000
theorem cf_0 : CF 0 RX0 TX0 35 tyX0 := ⟨rfl, rfl, by decide +kernel, in_X0, tyX0_ok, nmX0⟩
theorem cf_1 : CF 1 RX1 TX1 5 tyX1 := ⟨rfl, rfl, by decide +kernel, in_X1, tyX1_ok, nmX1⟩
theorem cf_2 : CF 2 RX2 TX2 8 tyX2 := ⟨rfl, rfl, by decide +kernel, in_X2, tyX2_ok, nmX2⟩
theorem cf_3 : CF 3 RX3 TX3 8 tyX3 := ⟨rfl, rfl, by decide +kernel, in_X3, tyX3_ok, nmX3⟩
theorem cf_4 : CF 4 RX4 TX4 1 tyX4 := ⟨rfl, rfl, by decide +kernel, in_X4, tyX4_ok, nmX4⟩
theorem cf_5 : CF 5 RX5 TX5 6 tyX5 := ⟨rfl, rfl, by decide +kernel, in_X5, tyX5_ok, nmX5⟩
theorem cf_6 : CF 6 RX6 TX6 100 tyX6 := ⟨rfl, rfl, by decide +kernel, in_X6, tyX6_ok, nmX6⟩
theorem cf_7 : CF 7 RX7 TX7 1 tyX7 := ⟨rfl, rfl, by decide +kernel, in_X7, tyX7_ok, nmX7⟩
theorem cf_8 : CF 8 RX8 TX8 7 tyX8 := ⟨rfl, rfl, by decide +kernel, in_X8, tyX8_ok, nmX8⟩
theorem cf_9 : CF 9 RX10 TX10 2 tyX10 := ⟨rfl, rfl, by decide +kernel, in_X10, tyX10_ok, nmX10⟩
theorem cf_10 : CF 10 RX11 TX11 3 tyX11 := ⟨rfl, rfl, by decide +kernel, in_X11, tyX11_ok, nmX11⟩
theorem cf_11 : CF 11 RX12 TX12 1 tyX12 := ⟨rfl, rfl, by decide +kernel, in_X12, tyX12_ok, nmX12⟩
theorem cf_12 : CF 12 RX13 TX13 1 tyX13 := ⟨rfl, rfl, by decide +kernel, in_X13, tyX13_ok, nmX13⟩
theorem cf_13 : CF 13 RX14 TX14 3 tyX14 := ⟨rfl, rfl, by decide +kernel, in_X14, tyX14_ok, nmX14⟩
theorem cf_14 : CF 14 RX15 TX15 4 tyX15 := ⟨rfl, rfl, by decide +kernel, in_X15, tyX15_ok, nmX15⟩
theorem cf_15 : CF 15 RX16 TX16 5 tyX16 := ⟨rfl, rfl, by decide +kernel, in_X16, tyX16_ok, nmX16⟩
theorem cf_16 : CF 16 RX18 TX18 2 tyX18 := ⟨rfl, rfl, by decide +kernel, in_X18, tyX18_ok, nmX18⟩
theorem cf_17 : CF 17 RX19 TX19 1 tyX19 := ⟨rfl, rfl, by decide +kernel, in_X19, tyX19_ok, nmX19⟩
theorem cf_18 : CF 18 RX20 TX20 0 (fun _ => .int) := ⟨rfl, rfl, fun k h => absurd h (Nat.not_lt_zero k), fun w h => by simp [u_ws] at h, fun k h => absurd h (Nat.not_lt_zero k), fun a h => absurd h (Nat.not_lt_zero a)⟩
theorem cf_19 : CF 19 RX21 TX21 3 tyX21 := ⟨rfl, rfl, by decide +kernel, in_X21, tyX21_ok, nmX21⟩
theorem cf_20 : CF 20 RJ2 TJ2 3 tyJ2 := ⟨rfl, rfl, by decide +kernel, in_J2, tyJ2_ok, nmJ2⟩
theorem cf_21 : CF 21 RJ15 TJ15 4 tyJ15 := ⟨rfl, rfl, by decide +kernel, in_J15, tyJ15_ok, nmJ15⟩
theorem cf_22 : CF 22 RJ6 TJ6 4 tyJ6 := ⟨rfl, rfl, by decide +kernel, in_J6, tyJ6_ok, nmJ6⟩

theorem statL_0 : ("java/lang/Throwable", "UNASSIGNED_STACK", "[Ljava/lang/StackTraceElement;", [2, 0]) ∈ statL := List.mem_of_getElem? (i := 0) rfl
theorem statL_1 : ("java/lang/Throwable", "SUPPRESSED_SENTINEL", "Ljava/util/List;", [2, 1]) ∈ statL := List.mem_of_getElem? (i := 1) rfl
theorem statL_2 : ("java/lang/String", "COMPACT_STRINGS", "Z", [0, 1]) ∈ statL := List.mem_of_getElem? (i := 2) rfl
theorem statL_3 : ("java/lang/StringUTF16", "$assertionsDisabled", "Z", [0, 1]) ∈ statL := List.mem_of_getElem? (i := 3) rfl
theorem statL_4 : ("jdk/internal/util/Preconditions", "SIOOBE_FORMATTER", "Ljava/util/function/BiFunction;", [2, 2]) ∈ statL := List.mem_of_getElem? (i := 4) rfl
theorem statL_5 : ("BreathTown", "OWN", "[Ljava/lang/String;", [1, 4]) ∈ statL := List.mem_of_getElem? (i := 5) rfl
theorem statL_6 : ("BreathTown", "ASKED", "[Ljava/lang/String;", [1, 1]) ∈ statL := List.mem_of_getElem? (i := 6) rfl
theorem statL_7 : ("BreathTown", "LOOKED", "[Ljava/lang/String;", [1, 2]) ∈ statL := List.mem_of_getElem? (i := 7) rfl
theorem statL_8 : ("BreathTown", "TOLD_OF", "[Ljava/lang/String;", [1, 3]) ∈ statL := List.mem_of_getElem? (i := 8) rfl
theorem strL_0 : ("java/lang/String", 7, "", 5) ∈ strL := List.mem_of_getElem? (i := 0) rfl
theorem strL_1 : ("BreathTown$Reade\x72", 153, "place", 7) ∈ strL := List.mem_of_getElem? (i := 1) rfl
theorem strL_2 : ("BreathTown$Reade\x72", 154, "street", 9) ∈ strL := List.mem_of_getElem? (i := 2) rfl
theorem strL_3 : ("BreathTown$Reade\x72", 156, "walke\x72", 11) ∈ strL := List.mem_of_getElem? (i := 3) rfl
theorem strL_4 : ("BreathTown$Reade\x72", 158, "begin", 13) ∈ strL := List.mem_of_getElem? (i := 4) rfl
theorem strL_5 : ("BreathTown$Reade\x72", 192, "from", 15) ∈ strL := List.mem_of_getElem? (i := 5) rfl
theorem strL_6 : ("BreathTown$Reade\x72", 182, "to", 17) ∈ strL := List.mem_of_getElem? (i := 6) rfl
theorem strL_7 : ("BreathTown$Reade\x72", 193, "takes", 19) ∈ strL := List.mem_of_getElem? (i := 7) rfl
theorem strL_8 : ("BreathTown$Reade\x72", 195, "round", 21) ∈ strL := List.mem_of_getElem? (i := 8) rfl
theorem strL_9 : ("BreathTown$Reade\x72", 197, "shift", 23) ∈ strL := List.mem_of_getElem? (i := 9) rfl
theorem strL_10 : ("BreathTown$Reade\x72", 199, "wide", 25) ∈ strL := List.mem_of_getElem? (i := 10) rfl
theorem strL_11 : ("BreathTown$Reade\x72", 254, "min", 27) ∈ strL := List.mem_of_getElem? (i := 11) rfl
theorem strL_12 : ("BreathTown$Reade\x72", 256, "max", 29) ∈ strL := List.mem_of_getElem? (i := 12) rfl
theorem strL_13 : ("BreathTown$Reade\x72", 174, "broad", 31) ∈ strL := List.mem_of_getElem? (i := 13) rfl
theorem strL_14 : ("BreathTown$Reade\x72", 179, "at", 33) ∈ strL := List.mem_of_getElem? (i := 14) rfl
theorem strL_15 : ("BreathTown$Reade\x72", 284, "not", 35) ∈ strL := List.mem_of_getElem? (i := 15) rfl
theorem strL_16 : ("BreathTown$Reade\x72", 291, "all", 37) ∈ strL := List.mem_of_getElem? (i := 16) rfl
theorem strL_17 : ("BreathTown$Reade\x72", 279, "and", 39) ∈ strL := List.mem_of_getElem? (i := 17) rfl
theorem strL_18 : ("BreathTown$Reade\x72", 270, "o\x72", 41) ∈ strL := List.mem_of_getElem? (i := 18) rfl
theorem strL_19 : ("BreathTown", 474, "place", 43) ∈ strL := List.mem_of_getElem? (i := 19) rfl
theorem strL_20 : ("BreathTown", 475, "street", 45) ∈ strL := List.mem_of_getElem? (i := 20) rfl
theorem strL_21 : ("BreathTown", 476, "from", 47) ∈ strL := List.mem_of_getElem? (i := 21) rfl
theorem strL_22 : ("BreathTown", 477, "to", 49) ∈ strL := List.mem_of_getElem? (i := 22) rfl
theorem strL_23 : ("BreathTown", 478, "takes", 51) ∈ strL := List.mem_of_getElem? (i := 23) rfl
theorem strL_24 : ("BreathTown", 447, "round", 53) ∈ strL := List.mem_of_getElem? (i := 24) rfl
theorem strL_25 : ("BreathTown", 479, "shift", 55) ∈ strL := List.mem_of_getElem? (i := 25) rfl
theorem strL_26 : ("BreathTown", 480, "wide", 57) ∈ strL := List.mem_of_getElem? (i := 26) rfl
theorem strL_27 : ("BreathTown", 482, "walke\x72", 59) ∈ strL := List.mem_of_getElem? (i := 27) rfl
theorem strL_28 : ("BreathTown", 483, "broad", 61) ∈ strL := List.mem_of_getElem? (i := 28) rfl
theorem strL_29 : ("BreathTown", 484, "at", 63) ∈ strL := List.mem_of_getElem? (i := 29) rfl
theorem strL_30 : ("BreathTown", 485, "begin", 65) ∈ strL := List.mem_of_getElem? (i := 30) rfl
theorem strL_31 : ("BreathTown", 446, "tide", 67) ∈ strL := List.mem_of_getElem? (i := 31) rfl
theorem strL_32 : ("BreathTown", 442, "clock", 69) ∈ strL := List.mem_of_getElem? (i := 32) rfl
theorem strL_33 : ("BreathTown", 444, "day", 71) ∈ strL := List.mem_of_getElem? (i := 33) rfl
theorem strL_34 : ("BreathTown", 487, "min", 73) ∈ strL := List.mem_of_getElem? (i := 34) rfl
theorem strL_35 : ("BreathTown", 488, "max", 75) ∈ strL := List.mem_of_getElem? (i := 35) rfl
theorem strL_36 : ("BreathTown", 441, "hou\x72", 77) ∈ strL := List.mem_of_getElem? (i := 36) rfl
theorem strL_37 : ("BreathTown", 452, "width", 79) ∈ strL := List.mem_of_getElem? (i := 37) rfl
theorem strL_38 : ("BreathTown", 454, "passes", 81) ∈ strL := List.mem_of_getElem? (i := 38) rfl
theorem strL_39 : ("BreathTown", 459, "first", 83) ∈ strL := List.mem_of_getElem? (i := 39) rfl
theorem strL_40 : ("BreathTown", 461, "last", 85) ∈ strL := List.mem_of_getElem? (i := 40) rfl
theorem strL_41 : ("BreathTown", 463, "often", 87) ∈ strL := List.mem_of_getElem? (i := 41) rfl
theorem strL_42 : ("BreathTown", 465, "total", 89) ∈ strL := List.mem_of_getElem? (i := 42) rfl
theorem strL_43 : ("BreathTown", 467, "most", 91) ∈ strL := List.mem_of_getElem? (i := 43) rfl
theorem strL_44 : ("BreathTown", 469, "least", 93) ∈ strL := List.mem_of_getElem? (i := 44) rfl
theorem face_size : faceL[0] ∈ faceL := List.getElem_mem _
theorem face_get : faceL[1] ∈ faceL := List.getElem_mem _
theorem face_add : faceL[2] ∈ faceL := List.getElem_mem _
theorem priv_ensureCapacityInternal : privL[0] ∈ privL := List.getElem_mem _
theorem priv_newCapacity : privL[1] ∈ privL := List.getElem_mem _
