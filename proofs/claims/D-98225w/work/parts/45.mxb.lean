set_option maxRecDepth 100000
theorem rgX7_9_7 : FLg RX7 9 7 0 7 := ⟨_, _, _, _, cf_7, by decide, rfl, Or.inl q814⟩
theorem rgX7_9_8 : FLg RX7 9 8 0 7 := ⟨_, _, _, _, cf_8, by decide, rfl, Or.inl q814⟩
theorem rgX7_9_14 : FLg RX7 9 14 0 7 := ⟨_, _, _, _, cf_14, by decide, rfl, Or.inl q814⟩
def tX7_find : List Ent := [
  (.iconst 0, 0, 1, [0, 0], [], none),
  (.istore_n 2, 1, 1, [], [], none),
  (.iload_n 2, 2, 1, [], [], none),
  (.aload_n 0, 3, 1, [], [], none),
  (.invokeinterface 15 1, 4, 5, [0], [(20, 301)], none),
  (.if_icmp .ge 31, 9, 3, [18], [], none),
  (.aload_n 0, 12, 1, [], [], none),
  (.iload_n 2, 13, 1, [], [], none),
  (.invokeinterface 21 2, 14, 5, [1], [(20, 302)], none),
  (.checkcast 10, 19, 3, [7, 8, 14], [], none),
  (.getfield 9, 22, 3, [7, 0, 7, 8, 14], [], none),
  (.aload_n 1, 25, 1, [], [], none),
  (.invokevirtual 25, 26, 3, [1], [(22, 317)], none),
  (.ifCond .eq 5, 29, 3, [16], [], none),
  (.iload_n 2, 32, 1, [], [], none),
  (.ireturn, 33, 1, [5], [], none),
  (.iinc 2 1, 34, 3, [0, 1], [], none),
  (.goto (-35), 37, 3, [2], [], none),
  (.iconst (-1), 40, 1, [1, 1], [], none),
  (.ireturn, 41, 1, [5], [], none)]
theorem aX7_find : AllE (EntOK RX7 (Option.some Jvm.ClassFile.FieldType.int) cX7_find) tX7_find := (AllE_c ⟨dX7_find_0, trivial, rfl⟩ (AllE_c ⟨dX7_find_1, trivial, rfl⟩ (AllE_c ⟨dX7_find_2, trivial, rfl⟩ (AllE_c ⟨dX7_find_3, trivial, rfl⟩ (AllE_c ⟨dX7_find_4, ⟨⟨_, _, _, _, _, _, _, rfl, rfl, face_size, lw_four q788 q755 q757 q181 (lw_meth q759), ⟨by decide +kernel, by decide +kernel, by decide +kernel⟩, by decide⟩, trivial⟩, rfl⟩ (AllE_c ⟨dX7_find_9, trivial, rfl⟩ (AllE_c ⟨dX7_find_12, trivial, rfl⟩ (AllE_c ⟨dX7_find_13, trivial, rfl⟩ (AllE_c ⟨dX7_find_14, ⟨⟨_, _, _, _, _, _, _, rfl, rfl, face_get, lw_four q790 q793 q795 q181 (lw_meth q797), ⟨by decide +kernel, by decide +kernel, by decide +kernel⟩, by decide⟩, trivial⟩, rfl⟩ (AllE_c ⟨dX7_find_19, Or.inr ⟨_, q808, ⟨Or.inl ⟨_, _, _, rfl, by decide, Or.inl rfl⟩, ⟨Or.inl ⟨_, _, _, rfl, by decide, Or.inr q2643⟩, ⟨Or.inl ⟨_, _, _, rfl, by decide, Or.inr q2644⟩, trivial⟩⟩⟩⟩, rfl⟩ (AllE_c ⟨dX7_find_22, ⟨rgX7_9_7, ⟨rgX7_9_8, ⟨rgX7_9_14, trivial⟩⟩⟩, rfl⟩ (AllE_c ⟨dX7_find_25, trivial, rfl⟩ (AllE_c ⟨dX7_find_26, ⟨Or.inl ⟨_, _, _, _, _, _, _, rfl, rfl, lw_V q809 q741 q742 q190 q743, rfl, ⟨by decide +kernel, by decide +kernel, by decide +kernel⟩, by decide⟩, trivial⟩, rfl⟩ (AllE_c ⟨dX7_find_29, trivial, rfl⟩ (AllE_c ⟨dX7_find_32, trivial, rfl⟩ (AllE_c ⟨dX7_find_33, rfl, rfl⟩ (AllE_c ⟨dX7_find_34, trivial, rfl⟩ (AllE_c ⟨dX7_find_37, trivial, rfl⟩ (AllE_c ⟨dX7_find_40, trivial, rfl⟩ (AllE_c ⟨dX7_find_41, rfl, rfl⟩ trivial))))))))))))))))))))
theorem okX7_find : TabOK RX7 (Option.some Jvm.ClassFile.FieldType.int) cX7_find tX7_find := ⟨aX7_find, by decide +kernel⟩
theorem rpX7_9_7 : FL RX7 9 7 0 7 true := ⟨_, _, _, _, cf_7, by decide, rfl, rfl, Or.inl q814, fun _ => rfl⟩
theorem rpX7_9_8 : FL RX7 9 8 0 7 true := ⟨_, _, _, _, cf_8, by decide, rfl, rfl, Or.inl q814, fun _ => rfl⟩
theorem rpX7_9_14 : FL RX7 9 14 0 7 true := ⟨_, _, _, _, cf_14, by decide, rfl, rfl, Or.inl q814, fun _ => rfl⟩
def tX7_init : List Ent := [
  (.aload_n 0, 0, 1, [], [], none),
  (.invokespecial 3, 1, 3, [99], [], none),
  (.aload_n 0, 4, 1, [], [], none),
  (.aload_n 1, 5, 1, [], [], none),
  (.putfield 9, 6, 3, [7, 1, 0, 7, 8, 14], [], none),
  (.return_, 9, 1, [], [], none)]
theorem aX7_init : AllE (EntOK RX7 (none) cX7_init) tX7_init := (AllE_c ⟨dX7_init_0, trivial, rfl⟩ (AllE_c ⟨dX7_init_1, ⟨q813, q223, q224⟩, rfl⟩ (AllE_c ⟨dX7_init_4, trivial, rfl⟩ (AllE_c ⟨dX7_init_5, trivial, rfl⟩ (AllE_c ⟨dX7_init_6, ⟨rpX7_9_7, ⟨rpX7_9_8, ⟨rpX7_9_14, trivial⟩⟩⟩, rfl⟩ (AllE_c ⟨dX7_init_9, rfl, rfl⟩ trivial))))))
theorem okX7_init : TabOK RX7 (none) cX7_init tX7_init := ⟨aX7_init, by decide +kernel⟩
def tX7_letter : List Ent := [
  (.iload_n 1, 0, 1, [], [], none),
  (.aload_n 0, 1, 1, [], [], none),
  (.getfield 9, 2, 3, [7, 0, 7, 8, 14], [], none),
  (.invokevirtual 31, 5, 3, [0], [(22, 318)], none),
  (.if_icmp .ge 19, 8, 3, [14], [], none),
  (.aload_n 0, 11, 1, [], [], none),
  (.getfield 9, 12, 3, [7, 0, 7, 8, 14], [], none),
  (.iload_n 1, 15, 1, [], [], none),
  (.invokevirtual 34, 16, 3, [1], [(22, 321)], none),
  (.bipush 97, 19, 2, [0, 97], [], none),
  (.isub, 21, 1, [], [], none),
  (.iconst 1, 22, 1, [0, 1], [], none),
  (.iadd, 23, 1, [], [], none),
  (.goto 4, 24, 3, [15], [], none),
  (.iconst 0, 27, 1, [0, 0], [], none),
  (.ireturn, 28, 1, [5], [], none)]
theorem aX7_letter : AllE (EntOK RX7 (Option.some Jvm.ClassFile.FieldType.int) cX7_letter) tX7_letter := (AllE_c ⟨dX7_letter_0, trivial, rfl⟩ (AllE_c ⟨dX7_letter_1, trivial, rfl⟩ (AllE_c ⟨dX7_letter_2, ⟨rgX7_9_7, ⟨rgX7_9_8, ⟨rgX7_9_14, trivial⟩⟩⟩, rfl⟩ (AllE_c ⟨dX7_letter_5, ⟨Or.inl ⟨_, _, _, _, _, _, _, rfl, rfl, lw_V q1347 q777 q778 q190 q779, rfl, ⟨by decide +kernel, by decide +kernel, by decide +kernel⟩, by decide⟩, trivial⟩, rfl⟩ (AllE_c ⟨dX7_letter_8, trivial, rfl⟩ (AllE_c ⟨dX7_letter_11, trivial, rfl⟩ (AllE_c ⟨dX7_letter_12, ⟨rgX7_9_7, ⟨rgX7_9_8, ⟨rgX7_9_14, trivial⟩⟩⟩, rfl⟩ (AllE_c ⟨dX7_letter_15, trivial, rfl⟩ (AllE_c ⟨dX7_letter_16, ⟨Or.inl ⟨_, _, _, _, _, _, _, rfl, rfl, lw_V q1348 q1349 q1350 q190 q1351, rfl, ⟨by decide +kernel, by decide +kernel, by decide +kernel⟩, by decide⟩, trivial⟩, rfl⟩ (AllE_c ⟨dX7_letter_19, trivial, rfl⟩ (AllE_c ⟨dX7_letter_21, trivial, rfl⟩ (AllE_c ⟨dX7_letter_22, trivial, rfl⟩ (AllE_c ⟨dX7_letter_23, trivial, rfl⟩ (AllE_c ⟨dX7_letter_24, trivial, rfl⟩ (AllE_c ⟨dX7_letter_27, trivial, rfl⟩ (AllE_c ⟨dX7_letter_28, rfl, rfl⟩ trivial))))))))))))))))
theorem okX7_letter : TabOK RX7 (Option.some Jvm.ClassFile.FieldType.int) cX7_letter tX7_letter := ⟨aX7_letter, by decide +kernel⟩
theorem rpX8_9_8 : FL RX8 9 8 1 5 true := ⟨_, _, _, _, cf_8, by decide, rfl, rfl, Or.inl q1125, fun _ => rfl⟩
theorem rpX8_15_8 : FL RX8 15 8 2 5 true := ⟨_, _, _, _, cf_8, by decide, rfl, rfl, Or.inl q1127, fun _ => rfl⟩
theorem rpX8_18_8 : FL RX8 18 8 3 5 true := ⟨_, _, _, _, cf_8, by decide, rfl, rfl, Or.inl q1129, fun _ => rfl⟩
theorem rpX8_21_8 : FL RX8 21 8 4 5 true := ⟨_, _, _, _, cf_8, by decide, rfl, rfl, Or.inl q1131, fun _ => rfl⟩
theorem rpX8_24_8 : FL RX8 24 8 5 5 true := ⟨_, _, _, _, cf_8, by decide, rfl, rfl, Or.inl q1133, fun _ => rfl⟩
theorem rpX8_27_8 : FL RX8 27 8 6 7 true := ⟨_, _, _, _, cf_8, by decide, rfl, rfl, Or.inl q1135, fun _ => rfl⟩
def tX8_init : List Ent := [
  (.aload_n 0, 0, 1, [], [], none),
  (.aload_n 1, 1, 1, [], [], none),
  (.invokespecial 3, 2, 3, [1, 272], [], none),
  (.aload_n 0, 5, 1, [], [], none),
  (.iload_n 2, 6, 1, [], [], none),
  (.putfield 9, 7, 3, [5, 1, 1, 8], [], none),
  (.aload_n 0, 10, 1, [], [], none),
  (.iload_n 3, 11, 1, [], [], none),
  (.putfield 15, 12, 3, [5, 1, 2, 8], [], none),
  (.aload_n 0, 15, 1, [], [], none),
  (.iload 4, 16, 2, [], [], none),
  (.putfield 18, 18, 3, [5, 1, 3, 8], [], none),
  (.aload_n 0, 21, 1, [], [], none),
  (.iload 5, 22, 2, [], [], none),
  (.putfield 21, 24, 3, [5, 1, 4, 8], [], none),
  (.aload_n 0, 27, 1, [], [], none),
  (.iload 6, 28, 2, [], [], none),
  (.iload 5, 30, 2, [], [], none),
  (.irem, 32, 1, [], [], none),
  (.putfield 24, 33, 3, [5, 1, 5, 8], [], none),
  (.aload_n 0, 36, 1, [], [], none),
  (.aload 7, 37, 2, [], [], none),
  (.putfield 27, 39, 3, [7, 1, 6, 8], [], none),
  (.return_, 42, 1, [], [], none)]
theorem aX8_init : AllE (EntOK RX8 (none) cX8_init) tX8_init := (AllE_c ⟨dX8_init_0, trivial, rfl⟩ (AllE_c ⟨dX8_init_1, trivial, rfl⟩ (AllE_c ⟨dX8_init_2, Or.inl ⟨_, _, _, rfl, q812, q195, q1124, q811, rfl, ⟨by decide +kernel, by decide +kernel, by decide +kernel⟩, by decide⟩, rfl⟩ (AllE_c ⟨dX8_init_5, trivial, rfl⟩ (AllE_c ⟨dX8_init_6, trivial, rfl⟩ (AllE_c ⟨dX8_init_7, ⟨rpX8_9_8, trivial⟩, rfl⟩ (AllE_c ⟨dX8_init_10, trivial, rfl⟩ (AllE_c ⟨dX8_init_11, trivial, rfl⟩ (AllE_c ⟨dX8_init_12, ⟨rpX8_15_8, trivial⟩, rfl⟩ (AllE_c ⟨dX8_init_15, trivial, rfl⟩ (AllE_c ⟨dX8_init_16, trivial, rfl⟩ (AllE_c ⟨dX8_init_18, ⟨rpX8_18_8, trivial⟩, rfl⟩ (AllE_c ⟨dX8_init_21, trivial, rfl⟩ (AllE_c ⟨dX8_init_22, trivial, rfl⟩ (AllE_c ⟨dX8_init_24, ⟨rpX8_21_8, trivial⟩, rfl⟩ (AllE_c ⟨dX8_init_27, trivial, rfl⟩ (AllE_c ⟨dX8_init_28, trivial, rfl⟩ (AllE_c ⟨dX8_init_30, trivial, rfl⟩ (AllE_c ⟨dX8_init_32, trivial, rfl⟩ (AllE_c ⟨dX8_init_33, ⟨rpX8_24_8, trivial⟩, rfl⟩ (AllE_c ⟨dX8_init_36, trivial, rfl⟩ (AllE_c ⟨dX8_init_37, trivial, rfl⟩ (AllE_c ⟨dX8_init_39, ⟨rpX8_27_8, trivial⟩, rfl⟩ (AllE_c ⟨dX8_init_42, rfl, rfl⟩ trivial))))))))))))))))))))))))
theorem okX8_init : TabOK RX8 (none) cX8_init tX8_init := ⟨aX8_init, by decide +kernel⟩
theorem rgX8_9_8 : FLg RX8 9 8 1 5 := ⟨_, _, _, _, cf_8, by decide, rfl, Or.inl q1125⟩
theorem rgX8_15_8 : FLg RX8 15 8 2 5 := ⟨_, _, _, _, cf_8, by decide, rfl, Or.inl q1127⟩
def tX8_other : List Ent := [
  (.iload_n 1, 0, 1, [], [], none),
  (.aload_n 0, 1, 1, [], [], none),
  (.getfield 9, 2, 3, [5, 1, 8], [], none),
  (.if_icmp .ne 10, 5, 3, [7], [], none),
  (.aload_n 0, 8, 1, [], [], none),
  (.getfield 15, 9, 3, [5, 2, 8], [], none),
  (.goto 19, 12, 3, [15], [], none),
  (.iload_n 1, 15, 1, [], [], none),
  (.aload_n 0, 16, 1, [], [], none),
  (.getfield 15, 17, 3, [5, 2, 8], [], none),
  (.if_icmp .ne 10, 20, 3, [14], [], none),
  (.aload_n 0, 23, 1, [], [], none),
  (.getfield 9, 24, 3, [5, 1, 8], [], none),
  (.goto 4, 27, 3, [15], [], none),
  (.iconst (-1), 30, 1, [1, 1], [], none),
  (.ireturn, 31, 1, [5], [], none)]
theorem aX8_other : AllE (EntOK RX8 (Option.some Jvm.ClassFile.FieldType.int) cX8_other) tX8_other := (AllE_c ⟨dX8_other_0, trivial, rfl⟩ (AllE_c ⟨dX8_other_1, trivial, rfl⟩ (AllE_c ⟨dX8_other_2, ⟨rgX8_9_8, trivial⟩, rfl⟩ (AllE_c ⟨dX8_other_5, trivial, rfl⟩ (AllE_c ⟨dX8_other_8, trivial, rfl⟩ (AllE_c ⟨dX8_other_9, ⟨rgX8_15_8, trivial⟩, rfl⟩ (AllE_c ⟨dX8_other_12, trivial, rfl⟩ (AllE_c ⟨dX8_other_15, trivial, rfl⟩ (AllE_c ⟨dX8_other_16, trivial, rfl⟩ (AllE_c ⟨dX8_other_17, ⟨rgX8_15_8, trivial⟩, rfl⟩ (AllE_c ⟨dX8_other_20, trivial, rfl⟩ (AllE_c ⟨dX8_other_23, trivial, rfl⟩ (AllE_c ⟨dX8_other_24, ⟨rgX8_9_8, trivial⟩, rfl⟩ (AllE_c ⟨dX8_other_27, trivial, rfl⟩ (AllE_c ⟨dX8_other_30, trivial, rfl⟩ (AllE_c ⟨dX8_other_31, rfl, rfl⟩ trivial))))))))))))))))
theorem okX8_other : TabOK RX8 (Option.some Jvm.ClassFile.FieldType.int) cX8_other tX8_other := ⟨aX8_other, by decide +kernel⟩
theorem rpX10_12_9 : FL RX10 12 9 0 7 true := ⟨_, _, _, _, cf_9, by decide, rfl, rfl, Or.inl q967, fun _ => rfl⟩
theorem rpX10_21_9 : FL RX10 21 9 1 7 true := ⟨_, _, _, _, cf_9, by decide, rfl, rfl, Or.inl q968, fun _ => rfl⟩
def tX10_init : List Ent := [
  (.aload_n 0, 0, 1, [], [], none),
  (.invokespecial 1, 1, 3, [0, 381], [], none),
  (.aload_n 0, 4, 1, [], [], none),
  (.new 7, 5, 3, [20, 3], [], none),
  (.dup, 8, 1, [], [], none),
  (.iconst 2, 9, 1, [0, 2], [], none),
  (.invokespecial 9, 10, 3, [1, 300], [], none),
  (.putfield 12, 13, 3, [7, 1, 0, 9], [], none),
  (.aload_n 0, 16, 1, [], [], none),
  (.new 18, 17, 3, [21, 4], [], none),
  (.dup, 20, 1, [], [], none),
  (.invokespecial 20, 21, 3, [0, 308], [], none),
  (.putfield 21, 24, 3, [7, 1, 1, 9], [], none),
  (.return_, 27, 1, [], [], none)]
theorem aX10_init : AllE (EntOK RX10 (none) cX10_init) tX10_init := (AllE_c ⟨dX10_init_0, trivial, rfl⟩ (AllE_c ⟨dX10_init_1, Or.inr (Or.inl ⟨_, _, _, _, rfl, q940, q201, q938, q939, rfl, ⟨by decide +kernel, by decide +kernel, by decide +kernel⟩, by decide⟩), rfl⟩ (AllE_c ⟨dX10_init_4, trivial, rfl⟩ (AllE_c ⟨dX10_init_5, ⟨_, _, _, cf_20, q942, q232, q181⟩, rfl⟩ (AllE_c ⟨dX10_init_8, trivial, rfl⟩ (AllE_c ⟨dX10_init_9, trivial, rfl⟩ (AllE_c ⟨dX10_init_10, Or.inl ⟨_, _, _, rfl, q235, q181, q943, q234, rfl, ⟨by decide +kernel, by decide +kernel, by decide +kernel⟩, by decide⟩, rfl⟩ (AllE_c ⟨dX10_init_13, ⟨rpX10_12_9, trivial⟩, rfl⟩ (AllE_c ⟨dX10_init_16, trivial, rfl⟩ (AllE_c ⟨dX10_init_17, ⟨_, _, _, cf_21, q944, q945, q204⟩, rfl⟩ (AllE_c ⟨dX10_init_20, trivial, rfl⟩ (AllE_c ⟨dX10_init_21, Or.inl ⟨_, _, _, rfl, q948, q204, q946, q947, rfl, ⟨by decide +kernel, by decide +kernel, by decide +kernel⟩, by decide⟩, rfl⟩ (AllE_c ⟨dX10_init_24, ⟨rpX10_21_9, trivial⟩, rfl⟩ (AllE_c ⟨dX10_init_27, rfl, rfl⟩ trivial))))))))))))))
theorem okX10_init : TabOK RX10 (none) cX10_init tX10_init := ⟨aX10_init, by decide +kernel⟩
theorem rgX10_21_9 : FLg RX10 21 9 1 7 := ⟨_, _, _, _, cf_9, by decide, rfl, Or.inl q968⟩
theorem rgX10_12_9 : FLg RX10 12 9 0 7 := ⟨_, _, _, _, cf_9, by decide, rfl, Or.inl q967⟩
def tX10_add : List Ent := [
  (.aload_n 0, 0, 1, [], [], none),
  (.getfield 21, 1, 3, [7, 1, 9], [], none),
  (.iload_n 1, 4, 1, [], [], none),
  (.invokevirtual 25, 5, 3, [1], [(21, 309)], none),
  (.pop, 8, 1, [], [], none),
  (.aload_n 0, 9, 1, [], [], none),
  (.getfield 12, 10, 3, [7, 0, 9], [], none),
  (.aload_n 2, 13, 1, [], [], none),
  (.invokeinterface 29 2, 14, 5, [1], [(20, 304)], none),
  (.pop, 19, 1, [], [], none),
  (.return_, 20, 1, [], [], none)]
theorem aX10_add : AllE (EntOK RX10 (none) cX10_add) tX10_add := (AllE_c ⟨dX10_add_0, trivial, rfl⟩ (AllE_c ⟨dX10_add_1, ⟨rgX10_21_9, trivial⟩, rfl⟩ (AllE_c ⟨dX10_add_4, trivial, rfl⟩ (AllE_c ⟨dX10_add_5, ⟨Or.inl ⟨_, _, _, _, _, _, _, rfl, rfl, lw_V q1060 q1061 q1062 q204 q1063, rfl, ⟨by decide +kernel, by decide +kernel, by decide +kernel⟩, by decide⟩, trivial⟩, rfl⟩ (AllE_c ⟨dX10_add_8, trivial, rfl⟩ (AllE_c ⟨dX10_add_9, trivial, rfl⟩ (AllE_c ⟨dX10_add_10, ⟨rgX10_12_9, trivial⟩, rfl⟩ (AllE_c ⟨dX10_add_13, trivial, rfl⟩ (AllE_c ⟨dX10_add_14, ⟨⟨_, _, _, _, _, _, _, rfl, rfl, face_add, lw_four q1116 q822 q824 q181 (lw_meth q826), ⟨by decide +kernel, by decide +kernel, by decide +kernel⟩, by decide⟩, trivial⟩, rfl⟩ (AllE_c ⟨dX10_add_19, trivial, rfl⟩ (AllE_c ⟨dX10_add_20, rfl, rfl⟩ trivial)))))))))))
theorem okX10_add : TabOK RX10 (none) cX10_add tX10_add := ⟨aX10_add, by decide +kernel⟩
def tX10_at : List Ent := [
  (.aload_n 0, 0, 1, [], [], none),
  (.getfield 12, 1, 3, [7, 0, 9], [], none),
  (.iconst 0, 4, 1, [0, 0], [], none),
  (.invokeinterface 35 2, 5, 5, [1], [(20, 302)], none),
  (.checkcast 2, 10, 3, [9, 10, 11, 12, 13], [], none),
  (.aload_n 1, 13, 1, [], [], none),
  (.invokevirtual 39, 14, 3, [1], [(9, 278), (10, 281), (11, 283), (12, 285), (13, 287)], none),
  (.lstore_n 2, 17, 1, [], [], none),
  (.iconst 1, 18, 1, [0, 1], [], none),
  (.istore 4, 19, 2, [], [], none),
  (.iload 4, 21, 2, [], [], none),
  (.aload_n 0, 23, 1, [], [], none),
  (.getfield 12, 24, 3, [7, 0, 9], [], none),
  (.invokeinterface 43 1, 27, 5, [0], [(20, 301)], none),
  (.if_icmp .ge 44, 32, 3, [32], [], none),
  (.aload_n 0, 35, 1, [], [], none),
  (.getfield 21, 36, 3, [7, 1, 9], [], none),
  (.iload 4, 39, 2, [], [], none),
  (.invokevirtual 47, 41, 3, [1], [(21, 310)], none),
  (.lload_n 2, 44, 1, [], [], none),
  (.aload_n 0, 45, 1, [], [], none),
  (.getfield 12, 46, 3, [7, 0, 9], [], none),
  (.iload 4, 49, 2, [], [], none),
  (.invokeinterface 35 2, 51, 5, [1], [(20, 302)], none),
  (.checkcast 2, 56, 3, [9, 10, 11, 12, 13], [], none),
  (.aload_n 1, 59, 1, [], [], none),
  (.invokevirtual 39, 60, 3, [1], [(9, 278), (10, 281), (11, 283), (12, 285), (13, 287)], none),
  (.invokestatic 51, 63, 3, [3, 279], [], none),
  (.invokestatic 55, 66, 3, [1, 171], [], none),
  (.lstore_n 2, 69, 1, [], [], none),
  (.iinc 4 1, 70, 3, [0, 1], [], none),
  (.goto (-52), 73, 3, [10], [], none),
  (.lload_n 2, 76, 1, [], [], none),
  (.lreturn, 77, 1, [], [], none)]
theorem aX10_at : AllE (EntOK RX10 (Option.some Jvm.ClassFile.FieldType.long) cX10_at) tX10_at := (AllE_c ⟨dX10_at_0, trivial, rfl⟩ (AllE_c ⟨dX10_at_1, ⟨rgX10_12_9, trivial⟩, rfl⟩ (AllE_c ⟨dX10_at_4, trivial, rfl⟩ (AllE_c ⟨dX10_at_5, ⟨⟨_, _, _, _, _, _, _, rfl, rfl, face_get, lw_four q1251 q793 q795 q181 (lw_meth q797), ⟨by decide +kernel, by decide +kernel, by decide +kernel⟩, by decide⟩, trivial⟩, rfl⟩ (AllE_c ⟨dX10_at_10, Or.inr ⟨_, q1252, ⟨Or.inl ⟨_, _, _, rfl, by decide, Or.inr q2646⟩, ⟨Or.inl ⟨_, _, _, rfl, by decide, Or.inr q2649⟩, ⟨Or.inl ⟨_, _, _, rfl, by decide, Or.inr q2647⟩, ⟨Or.inl ⟨_, _, _, rfl, by decide, Or.inr q2645⟩, ⟨Or.inl ⟨_, _, _, rfl, by decide, Or.inr q2648⟩, trivial⟩⟩⟩⟩⟩⟩, rfl⟩ (AllE_c ⟨dX10_at_13, trivial, rfl⟩ (AllE_c ⟨dX10_at_14, ⟨Or.inr (Or.inr (Or.inl ⟨_, _, _, ⟨"BreathTown$Value", "at", "(LBreathTown$Moment;)J"⟩, _, _, _, _, _, rfl, rfl, lw_five q1253 q1232 q1247 q1248 q202 (lw_meth q1249), Or.inr q1231, ⟨by decide +kernel, by decide +kernel, by decide +kernel⟩, by decide⟩)), ⟨Or.inr (Or.inr (Or.inl ⟨_, _, _, ⟨"BreathTown$Value", "at", "(LBreathTown$Moment;)J"⟩, _, _, _, _, _, rfl, rfl, lw_five q1253 q1232 q1298 q1259 q205 (lw_meth q1260), Or.inr q1231, ⟨by decide +kernel, by decide +kernel, by decide +kernel⟩, by decide⟩)), ⟨Or.inr (Or.inr (Or.inl ⟨_, _, _, ⟨"BreathTown$Value", "at", "(LBreathTown$Moment;)J"⟩, _, _, _, _, _, rfl, rfl, lw_five q1253 q1232 q1296 q1254 q206 (lw_meth q1255), Or.inr q1231, ⟨by decide +kernel, by decide +kernel, by decide +kernel⟩, by decide⟩)), ⟨Or.inr (Or.inr (Or.inl ⟨_, _, _, ⟨"BreathTown$Value", "at", "(LBreathTown$Moment;)J"⟩, _, _, _, _, _, rfl, rfl, lw_five q1253 q1232 q1233 q1234 q207 (lw_meth q1235), Or.inr q1231, ⟨by decide +kernel, by decide +kernel, by decide +kernel⟩, by decide⟩)), ⟨Or.inr (Or.inr (Or.inl ⟨_, _, _, ⟨"BreathTown$Value", "at", "(LBreathTown$Moment;)J"⟩, _, _, _, _, _, rfl, rfl, lw_five q1253 q1232 q1297 q1256 q208 (lw_meth q1257), Or.inr q1231, ⟨by decide +kernel, by decide +kernel, by decide +kernel⟩, by decide⟩)), trivial⟩⟩⟩⟩⟩, rfl⟩ (AllE_c ⟨dX10_at_17, trivial, rfl⟩ (AllE_c ⟨dX10_at_18, trivial, rfl⟩ (AllE_c ⟨dX10_at_19, trivial, rfl⟩ (AllE_c ⟨dX10_at_21, trivial, rfl⟩ (AllE_c ⟨dX10_at_23, trivial, rfl⟩ (AllE_c ⟨dX10_at_24, ⟨rgX10_12_9, trivial⟩, rfl⟩ (AllE_c ⟨dX10_at_27, ⟨⟨_, _, _, _, _, _, _, rfl, rfl, face_size, lw_four q1278 q755 q757 q181 (lw_meth q759), ⟨by decide +kernel, by decide +kernel, by decide +kernel⟩, by decide⟩, trivial⟩, rfl⟩ (AllE_c ⟨dX10_at_32, trivial, rfl⟩ (AllE_c ⟨dX10_at_35, trivial, rfl⟩ (AllE_c ⟨dX10_at_36, ⟨rgX10_21_9, trivial⟩, rfl⟩ (AllE_c ⟨dX10_at_39, trivial, rfl⟩ (AllE_c ⟨dX10_at_41, ⟨Or.inl ⟨_, _, _, _, _, _, _, rfl, rfl, lw_V q1279 q1280 q1281 q204 q1282, rfl, ⟨by decide +kernel, by decide +kernel, by decide +kernel⟩, by decide⟩, trivial⟩, rfl⟩ (AllE_c ⟨dX10_at_44, trivial, rfl⟩ (AllE_c ⟨dX10_at_45, trivial, rfl⟩ (AllE_c ⟨dX10_at_46, ⟨rgX10_12_9, trivial⟩, rfl⟩ (AllE_c ⟨dX10_at_49, trivial, rfl⟩ (AllE_c ⟨dX10_at_51, ⟨⟨_, _, _, _, _, _, _, rfl, rfl, face_get, lw_four q1251 q793 q795 q181 (lw_meth q797), ⟨by decide +kernel, by decide +kernel, by decide +kernel⟩, by decide⟩, trivial⟩, rfl⟩ (AllE_c ⟨dX10_at_56, Or.inr ⟨_, q1252, ⟨Or.inl ⟨_, _, _, rfl, by decide, Or.inr q2646⟩, ⟨Or.inl ⟨_, _, _, rfl, by decide, Or.inr q2649⟩, ⟨Or.inl ⟨_, _, _, rfl, by decide, Or.inr q2647⟩, ⟨Or.inl ⟨_, _, _, rfl, by decide, Or.inr q2645⟩, ⟨Or.inl ⟨_, _, _, rfl, by decide, Or.inr q2648⟩, trivial⟩⟩⟩⟩⟩⟩, rfl⟩ (AllE_c ⟨dX10_at_59, trivial, rfl⟩ (AllE_c ⟨dX10_at_60, ⟨Or.inr (Or.inr (Or.inl ⟨_, _, _, ⟨"BreathTown$Value", "at", "(LBreathTown$Moment;)J"⟩, _, _, _, _, _, rfl, rfl, lw_five q1253 q1232 q1247 q1248 q202 (lw_meth q1249), Or.inr q1231, ⟨by decide +kernel, by decide +kernel, by decide +kernel⟩, by decide⟩)), ⟨Or.inr (Or.inr (Or.inl ⟨_, _, _, ⟨"BreathTown$Value", "at", "(LBreathTown$Moment;)J"⟩, _, _, _, _, _, rfl, rfl, lw_five q1253 q1232 q1298 q1259 q205 (lw_meth q1260), Or.inr q1231, ⟨by decide +kernel, by decide +kernel, by decide +kernel⟩, by decide⟩)), ⟨Or.inr (Or.inr (Or.inl ⟨_, _, _, ⟨"BreathTown$Value", "at", "(LBreathTown$Moment;)J"⟩, _, _, _, _, _, rfl, rfl, lw_five q1253 q1232 q1296 q1254 q206 (lw_meth q1255), Or.inr q1231, ⟨by decide +kernel, by decide +kernel, by decide +kernel⟩, by decide⟩)), ⟨Or.inr (Or.inr (Or.inl ⟨_, _, _, ⟨"BreathTown$Value", "at", "(LBreathTown$Moment;)J"⟩, _, _, _, _, _, rfl, rfl, lw_five q1253 q1232 q1233 q1234 q207 (lw_meth q1235), Or.inr q1231, ⟨by decide +kernel, by decide +kernel, by decide +kernel⟩, by decide⟩)), ⟨Or.inr (Or.inr (Or.inl ⟨_, _, _, ⟨"BreathTown$Value", "at", "(LBreathTown$Moment;)J"⟩, _, _, _, _, _, rfl, rfl, lw_five q1253 q1232 q1297 q1256 q208 (lw_meth q1257), Or.inr q1231, ⟨by decide +kernel, by decide +kernel, by decide +kernel⟩, by decide⟩)), trivial⟩⟩⟩⟩⟩, rfl⟩ (AllE_c ⟨dX10_at_63, Or.inl ⟨_, _, _, _, rfl, lw_S q1289 q1290 q202 q1291, ⟨by decide +kernel, by decide +kernel, by decide +kernel⟩, by decide⟩, rfl⟩ (AllE_c ⟨dX10_at_66, Or.inr ⟨_, _, _, _, _, rfl, q1295, q1237, q177, q1238, ⟨by decide +kernel, by decide +kernel, by decide +kernel⟩, by decide⟩, rfl⟩ (AllE_c ⟨dX10_at_69, trivial, rfl⟩ (AllE_c ⟨dX10_at_70, trivial, rfl⟩ (AllE_c ⟨dX10_at_73, trivial, rfl⟩ (AllE_c ⟨dX10_at_76, trivial, rfl⟩ (AllE_c ⟨dX10_at_77, rfl, rfl⟩ trivial))))))))))))))))))))))))))))))))))
theorem okX10_at : TabOK RX10 (Option.some Jvm.ClassFile.FieldType.long) cX10_at tX10_at := ⟨aX10_at, by decide +kernel⟩
def tX10_two : List Ent := [
  (.iload_n 0, 0, 1, [], [], none),
  (.tableswitch 43 42 45 #[39, 31, 43, 35], 1, 31, [14, 10, 2, 14, 6], [], none),
  (.lload_n 1, 32, 1, [], [], none),
  (.lload_n 3, 33, 1, [], [], none),
  (.ladd, 34, 1, [], [], none),
  (.lreturn, 35, 1, [], [], none),
  (.lload_n 1, 36, 1, [], [], none),
  (.lload_n 3, 37, 1, [], [], none),
  (.lsub, 38, 1, [], [], none),
  (.lreturn, 39, 1, [], [], none),
  (.lload_n 1, 40, 1, [], [], none),
  (.lload_n 3, 41, 1, [], [], none),
  (.lmul, 42, 1, [], [], none),
  (.lreturn, 43, 1, [], [], none),
  (.lload_n 3, 44, 1, [], [], none),
  (.lconst 0, 45, 1, [0], [], none),
  (.lcmp, 46, 1, [], [], none),
  (.ifCond .ne 7, 47, 3, [20], [], none),
  (.lconst 0, 50, 1, [0], [], none),
  (.goto 8, 51, 3, [23], [], none),
  (.lload_n 1, 54, 1, [], [], none),
  (.lload_n 3, 55, 1, [], [], none),
  (.invokestatic 61, 56, 3, [2, 338], [], none),
  (.lreturn, 59, 1, [], [], none)]
theorem aX10_two : AllE (EntOK RX10 (Option.some Jvm.ClassFile.FieldType.long) cX10_two) tX10_two := (AllE_c ⟨dX10_two_0, trivial, rfl⟩ (AllE_c ⟨dX10_two_1, trivial, rfl⟩ (AllE_c ⟨dX10_two_32, trivial, rfl⟩ (AllE_c ⟨dX10_two_33, trivial, rfl⟩ (AllE_c ⟨dX10_two_34, trivial, rfl⟩ (AllE_c ⟨dX10_two_35, rfl, rfl⟩ (AllE_c ⟨dX10_two_36, trivial, rfl⟩ (AllE_c ⟨dX10_two_37, trivial, rfl⟩ (AllE_c ⟨dX10_two_38, trivial, rfl⟩ (AllE_c ⟨dX10_two_39, rfl, rfl⟩ (AllE_c ⟨dX10_two_40, trivial, rfl⟩ (AllE_c ⟨dX10_two_41, trivial, rfl⟩ (AllE_c ⟨dX10_two_42, trivial, rfl⟩ (AllE_c ⟨dX10_two_43, rfl, rfl⟩ (AllE_c ⟨dX10_two_44, trivial, rfl⟩ (AllE_c ⟨dX10_two_45, trivial, rfl⟩ (AllE_c ⟨dX10_two_46, trivial, rfl⟩ (AllE_c ⟨dX10_two_47, trivial, rfl⟩ (AllE_c ⟨dX10_two_50, trivial, rfl⟩ (AllE_c ⟨dX10_two_51, trivial, rfl⟩ (AllE_c ⟨dX10_two_54, trivial, rfl⟩ (AllE_c ⟨dX10_two_55, trivial, rfl⟩ (AllE_c ⟨dX10_two_56, Or.inl ⟨_, _, _, _, rfl, lw_S q1292 q1293 q197 q1294, ⟨by decide +kernel, by decide +kernel, by decide +kernel⟩, by decide⟩, rfl⟩ (AllE_c ⟨dX10_two_59, rfl, rfl⟩ trivial))))))))))))))))))))))))
theorem okX10_two : TabOK RX10 (Option.some Jvm.ClassFile.FieldType.long) cX10_two tX10_two := ⟨aX10_two, by decide +kernel⟩
theorem rpX11_7_10 : FL RX11 7 10 0 1 true := ⟨_, _, _, _, cf_10, by decide, rfl, rfl, Or.inl q1000, fun _ => rfl⟩
theorem rpX11_13_10 : FL RX11 13 10 1 7 true := ⟨_, _, _, _, cf_10, by decide, rfl, rfl, Or.inl q1001, fun _ => rfl⟩
theorem rpX11_17_10 : FL RX11 17 10 2 7 true := ⟨_, _, _, _, cf_10, by decide, rfl, rfl, Or.inl q1002, fun _ => rfl⟩
def tX11_init : List Ent := [
  (.aload_n 0, 0, 1, [], [], none),
  (.invokespecial 1, 1, 3, [0, 381], [], none),
  (.aload_n 0, 4, 1, [], [], none),
  (.iload_n 1, 5, 1, [], [], none),
  (.putfield 7, 6, 3, [1, 1, 0, 10], [], none),
  (.aload_n 0, 9, 1, [], [], none),
  (.aload_n 2, 10, 1, [], [], none),
  (.putfield 13, 11, 3, [7, 1, 1, 10], [], none),
  (.aload_n 0, 14, 1, [], [], none),
  (.aload_n 3, 15, 1, [], [], none),
  (.putfield 17, 16, 3, [7, 1, 2, 10], [], none),
  (.return_, 19, 1, [], [], none)]
theorem aX11_init : AllE (EntOK RX11 (none) cX11_init) tX11_init := (AllE_c ⟨dX11_init_0, trivial, rfl⟩ (AllE_c ⟨dX11_init_1, Or.inr (Or.inl ⟨_, _, _, _, rfl, q940, q201, q999, q939, rfl, ⟨by decide +kernel, by decide +kernel, by decide +kernel⟩, by decide⟩), rfl⟩ (AllE_c ⟨dX11_init_4, trivial, rfl⟩ (AllE_c ⟨dX11_init_5, trivial, rfl⟩ (AllE_c ⟨dX11_init_6, ⟨rpX11_7_10, trivial⟩, rfl⟩ (AllE_c ⟨dX11_init_9, trivial, rfl⟩ (AllE_c ⟨dX11_init_10, trivial, rfl⟩ (AllE_c ⟨dX11_init_11, ⟨rpX11_13_10, trivial⟩, rfl⟩ (AllE_c ⟨dX11_init_14, trivial, rfl⟩ (AllE_c ⟨dX11_init_15, trivial, rfl⟩ (AllE_c ⟨dX11_init_16, ⟨rpX11_17_10, trivial⟩, rfl⟩ (AllE_c ⟨dX11_init_19, rfl, rfl⟩ trivial))))))))))))
theorem okX11_init : TabOK RX11 (none) cX11_init tX11_init := ⟨aX11_init, by decide +kernel⟩
theorem rgX11_13_10 : FLg RX11 13 10 1 7 := ⟨_, _, _, _, cf_10, by decide, rfl, Or.inl q1001⟩
theorem rgX11_17_10 : FLg RX11 17 10 2 7 := ⟨_, _, _, _, cf_10, by decide, rfl, Or.inl q1002⟩
theorem rgX11_7_10 : FLg RX11 7 10 0 1 := ⟨_, _, _, _, cf_10, by decide, rfl, Or.inl q1000⟩
def tX11_at : List Ent := [
  (.aload_n 0, 0, 1, [], [], none),
  (.getfield 13, 1, 3, [7, 1, 10], [], none),
  (.aload_n 1, 4, 1, [], [], none),
  (.invokevirtual 20, 5, 3, [1], [(9, 278), (10, 281), (11, 283), (12, 285), (13, 287)], none),
  (.lstore_n 2, 8, 1, [], [], none),
  (.aload_n 0, 9, 1, [], [], none),
  (.getfield 17, 10, 3, [7, 2, 10], [], none),
  (.aload_n 1, 13, 1, [], [], none),
  (.invokevirtual 20, 14, 3, [1], [(9, 278), (10, 281), (11, 283), (12, 285), (13, 287)], none),
  (.lstore 4, 17, 2, [], [], none),
  (.aload_n 0, 19, 1, [], [], none),
  (.getfield 7, 20, 3, [1, 0, 10], [], none),
  (.lload_n 2, 23, 1, [], [], none),
  (.lload 4, 24, 2, [], [], none),
  (.lcmp, 26, 1, [], [], none),
  (.ifCond .le 7, 27, 3, [18], [], none),
  (.iconst 1, 30, 1, [0, 1], [], none),
  (.goto 4, 31, 3, [19], [], none),
  (.iconst 0, 34, 1, [0, 0], [], none),
  (.if_icmp .ne 7, 35, 3, [22], [], none),
  (.lload_n 2, 38, 1, [], [], none),
  (.goto 5, 39, 3, [23], [], none),
  (.lload 4, 42, 2, [], [], none),
  (.lreturn, 44, 1, [], [], none)]
theorem aX11_at : AllE (EntOK RX11 (Option.some Jvm.ClassFile.FieldType.long) cX11_at) tX11_at := (AllE_c ⟨dX11_at_0, trivial, rfl⟩ (AllE_c ⟨dX11_at_1, ⟨rgX11_13_10, trivial⟩, rfl⟩ (AllE_c ⟨dX11_at_4, trivial, rfl⟩ (AllE_c ⟨dX11_at_5, ⟨Or.inr (Or.inr (Or.inl ⟨_, _, _, ⟨"BreathTown$Value", "at", "(LBreathTown$Moment;)J"⟩, _, _, _, _, _, rfl, rfl, lw_five q1261 q1232 q1247 q1248 q202 (lw_meth q1249), Or.inr q1231, ⟨by decide +kernel, by decide +kernel, by decide +kernel⟩, by decide⟩)), ⟨Or.inr (Or.inr (Or.inl ⟨_, _, _, ⟨"BreathTown$Value", "at", "(LBreathTown$Moment;)J"⟩, _, _, _, _, _, rfl, rfl, lw_five q1261 q1232 q1298 q1259 q205 (lw_meth q1260), Or.inr q1231, ⟨by decide +kernel, by decide +kernel, by decide +kernel⟩, by decide⟩)), ⟨Or.inr (Or.inr (Or.inl ⟨_, _, _, ⟨"BreathTown$Value", "at", "(LBreathTown$Moment;)J"⟩, _, _, _, _, _, rfl, rfl, lw_five q1261 q1232 q1296 q1254 q206 (lw_meth q1255), Or.inr q1231, ⟨by decide +kernel, by decide +kernel, by decide +kernel⟩, by decide⟩)), ⟨Or.inr (Or.inr (Or.inl ⟨_, _, _, ⟨"BreathTown$Value", "at", "(LBreathTown$Moment;)J"⟩, _, _, _, _, _, rfl, rfl, lw_five q1261 q1232 q1233 q1234 q207 (lw_meth q1235), Or.inr q1231, ⟨by decide +kernel, by decide +kernel, by decide +kernel⟩, by decide⟩)), ⟨Or.inr (Or.inr (Or.inl ⟨_, _, _, ⟨"BreathTown$Value", "at", "(LBreathTown$Moment;)J"⟩, _, _, _, _, _, rfl, rfl, lw_five q1261 q1232 q1297 q1256 q208 (lw_meth q1257), Or.inr q1231, ⟨by decide +kernel, by decide +kernel, by decide +kernel⟩, by decide⟩)), trivial⟩⟩⟩⟩⟩, rfl⟩ (AllE_c ⟨dX11_at_8, trivial, rfl⟩ (AllE_c ⟨dX11_at_9, trivial, rfl⟩ (AllE_c ⟨dX11_at_10, ⟨rgX11_17_10, trivial⟩, rfl⟩ (AllE_c ⟨dX11_at_13, trivial, rfl⟩ (AllE_c ⟨dX11_at_14, ⟨Or.inr (Or.inr (Or.inl ⟨_, _, _, ⟨"BreathTown$Value", "at", "(LBreathTown$Moment;)J"⟩, _, _, _, _, _, rfl, rfl, lw_five q1261 q1232 q1247 q1248 q202 (lw_meth q1249), Or.inr q1231, ⟨by decide +kernel, by decide +kernel, by decide +kernel⟩, by decide⟩)), ⟨Or.inr (Or.inr (Or.inl ⟨_, _, _, ⟨"BreathTown$Value", "at", "(LBreathTown$Moment;)J"⟩, _, _, _, _, _, rfl, rfl, lw_five q1261 q1232 q1298 q1259 q205 (lw_meth q1260), Or.inr q1231, ⟨by decide +kernel, by decide +kernel, by decide +kernel⟩, by decide⟩)), ⟨Or.inr (Or.inr (Or.inl ⟨_, _, _, ⟨"BreathTown$Value", "at", "(LBreathTown$Moment;)J"⟩, _, _, _, _, _, rfl, rfl, lw_five q1261 q1232 q1296 q1254 q206 (lw_meth q1255), Or.inr q1231, ⟨by decide +kernel, by decide +kernel, by decide +kernel⟩, by decide⟩)), ⟨Or.inr (Or.inr (Or.inl ⟨_, _, _, ⟨"BreathTown$Value", "at", "(LBreathTown$Moment;)J"⟩, _, _, _, _, _, rfl, rfl, lw_five q1261 q1232 q1233 q1234 q207 (lw_meth q1235), Or.inr q1231, ⟨by decide +kernel, by decide +kernel, by decide +kernel⟩, by decide⟩)), ⟨Or.inr (Or.inr (Or.inl ⟨_, _, _, ⟨"BreathTown$Value", "at", "(LBreathTown$Moment;)J"⟩, _, _, _, _, _, rfl, rfl, lw_five q1261 q1232 q1297 q1256 q208 (lw_meth q1257), Or.inr q1231, ⟨by decide +kernel, by decide +kernel, by decide +kernel⟩, by decide⟩)), trivial⟩⟩⟩⟩⟩, rfl⟩ (AllE_c ⟨dX11_at_17, trivial, rfl⟩ (AllE_c ⟨dX11_at_19, trivial, rfl⟩ (AllE_c ⟨dX11_at_20, ⟨rgX11_7_10, trivial⟩, rfl⟩ (AllE_c ⟨dX11_at_23, trivial, rfl⟩ (AllE_c ⟨dX11_at_24, trivial, rfl⟩ (AllE_c ⟨dX11_at_26, trivial, rfl⟩ (AllE_c ⟨dX11_at_27, trivial, rfl⟩ (AllE_c ⟨dX11_at_30, trivial, rfl⟩ (AllE_c ⟨dX11_at_31, trivial, rfl⟩ (AllE_c ⟨dX11_at_34, trivial, rfl⟩ (AllE_c ⟨dX11_at_35, trivial, rfl⟩ (AllE_c ⟨dX11_at_38, trivial, rfl⟩ (AllE_c ⟨dX11_at_39, trivial, rfl⟩ (AllE_c ⟨dX11_at_42, trivial, rfl⟩ (AllE_c ⟨dX11_at_44, rfl, rfl⟩ trivial))))))))))))))))))))))))
theorem okX11_at : TabOK RX11 (Option.some Jvm.ClassFile.FieldType.long) cX11_at tX11_at := ⟨aX11_at, by decide +kernel⟩
theorem rpX12_7_11 : FL RX12 7 11 0 6 true := ⟨_, _, _, _, cf_11, by decide, rfl, rfl, Or.inl q1016, fun _ => rfl⟩
def tX12_init : List Ent := [
  (.aload_n 0, 0, 1, [], [], none),
  (.invokespecial 1, 1, 3, [0, 381], [], none),
  (.aload_n 0, 4, 1, [], [], none),
  (.lload_n 1, 5, 1, [], [], none),
  (.putfield 7, 6, 3, [6, 1, 0, 11], [], none),
  (.return_, 9, 1, [], [], none)]
theorem aX12_init : AllE (EntOK RX12 (none) cX12_init) tX12_init := (AllE_c ⟨dX12_init_0, trivial, rfl⟩ (AllE_c ⟨dX12_init_1, Or.inr (Or.inl ⟨_, _, _, _, rfl, q940, q201, q1015, q939, rfl, ⟨by decide +kernel, by decide +kernel, by decide +kernel⟩, by decide⟩), rfl⟩ (AllE_c ⟨dX12_init_4, trivial, rfl⟩ (AllE_c ⟨dX12_init_5, trivial, rfl⟩ (AllE_c ⟨dX12_init_6, ⟨rpX12_7_11, trivial⟩, rfl⟩ (AllE_c ⟨dX12_init_9, rfl, rfl⟩ trivial))))))
theorem okX12_init : TabOK RX12 (none) cX12_init tX12_init := ⟨aX12_init, by decide +kernel⟩
theorem rgX12_7_11 : FLg RX12 7 11 0 6 := ⟨_, _, _, _, cf_11, by decide, rfl, Or.inl q1016⟩
def tX12_at : List Ent := [
  (.aload_n 0, 0, 1, [], [], none),
  (.getfield 7, 1, 3, [6, 0, 11], [], none),
  (.lreturn, 4, 1, [], [], none)]
theorem aX12_at : AllE (EntOK RX12 (Option.some Jvm.ClassFile.FieldType.long) cX12_at) tX12_at := (AllE_c ⟨dX12_at_0, trivial, rfl⟩ (AllE_c ⟨dX12_at_1, ⟨rgX12_7_11, trivial⟩, rfl⟩ (AllE_c ⟨dX12_at_4, rfl, rfl⟩ trivial)))
theorem okX12_at : TabOK RX12 (Option.some Jvm.ClassFile.FieldType.long) cX12_at tX12_at := ⟨aX12_at, by decide +kernel⟩
theorem rpX13_7_12 : FL RX13 7 12 0 5 true := ⟨_, _, _, _, cf_12, by decide, rfl, rfl, Or.inl q1028, fun _ => rfl⟩
def tX13_init : List Ent := [
  (.aload_n 0, 0, 1, [], [], none),
  (.invokespecial 1, 1, 3, [0, 381], [], none),
  (.aload_n 0, 4, 1, [], [], none),
  (.iload_n 1, 5, 1, [], [], none),
  (.putfield 7, 6, 3, [5, 1, 0, 12], [], none),
  (.return_, 9, 1, [], [], none)]
theorem aX13_init : AllE (EntOK RX13 (none) cX13_init) tX13_init := (AllE_c ⟨dX13_init_0, trivial, rfl⟩ (AllE_c ⟨dX13_init_1, Or.inr (Or.inl ⟨_, _, _, _, rfl, q940, q201, q1027, q939, rfl, ⟨by decide +kernel, by decide +kernel, by decide +kernel⟩, by decide⟩), rfl⟩ (AllE_c ⟨dX13_init_4, trivial, rfl⟩ (AllE_c ⟨dX13_init_5, trivial, rfl⟩ (AllE_c ⟨dX13_init_6, ⟨rpX13_7_12, trivial⟩, rfl⟩ (AllE_c ⟨dX13_init_9, rfl, rfl⟩ trivial))))))
theorem okX13_init : TabOK RX13 (none) cX13_init tX13_init := ⟨aX13_init, by decide +kernel⟩
theorem rgX13_13_4 : FLg RX13 13 4 0 7 := ⟨_, _, _, _, cf_4, by decide, rfl, Or.inr (Or.inl ⟨_, q394⟩)⟩
theorem rgX13_7_12 : FLg RX13 7 12 0 5 := ⟨_, _, _, _, cf_12, by decide, rfl, Or.inl q1028⟩
def tX13_at : List Ent := [
  (.aload_n 1, 0, 1, [], [], none),
  (.getfield 13, 1, 3, [7, 0, 4], [], none),
  (.aload_n 0, 4, 1, [], [], none),
  (.getfield 7, 5, 3, [5, 0, 12], [], none),
  (.laload, 8, 1, [], [], none),
  (.invokestatic 19, 9, 3, [1, 171], [], none),
  (.lreturn, 12, 1, [], [], none)]
theorem aX13_at : AllE (EntOK RX13 (Option.some Jvm.ClassFile.FieldType.long) cX13_at) tX13_at := (AllE_c ⟨dX13_at_0, trivial, rfl⟩ (AllE_c ⟨dX13_at_1, ⟨rgX13_13_4, trivial⟩, rfl⟩ (AllE_c ⟨dX13_at_4, trivial, rfl⟩ (AllE_c ⟨dX13_at_5, ⟨rgX13_7_12, trivial⟩, rfl⟩ (AllE_c ⟨dX13_at_8, trivial, rfl⟩ (AllE_c ⟨dX13_at_9, Or.inr ⟨_, _, _, _, _, rfl, q1236, q1237, q177, q1238, ⟨by decide +kernel, by decide +kernel, by decide +kernel⟩, by decide⟩, rfl⟩ (AllE_c ⟨dX13_at_12, rfl, rfl⟩ trivial)))))))
theorem okX13_at : TabOK RX13 (Option.some Jvm.ClassFile.FieldType.long) cX13_at tX13_at := ⟨aX13_at, by decide +kernel⟩
theorem rpX14_1_13 : FL RX14 1 13 2 7 true := ⟨_, _, _, _, cf_13, by decide, rfl, rfl, Or.inl q1046, fun _ => rfl⟩
theorem rpX14_13_13 : FL RX14 13 13 0 5 true := ⟨_, _, _, _, cf_13, by decide, rfl, rfl, Or.inl q1044, fun _ => rfl⟩
theorem rpX14_17_13 : FL RX14 17 13 1 7 true := ⟨_, _, _, _, cf_13, by decide, rfl, rfl, Or.inl q1045, fun _ => rfl⟩
def tX14_init : List Ent := [
  (.aload_n 0, 0, 1, [], [], none),
  (.aload_n 1, 1, 1, [], [], none),
  (.putfield 1, 2, 3, [7, 1, 2, 13], [], none),
  (.aload_n 0, 5, 1, [], [], none),
  (.invokespecial 7, 6, 3, [0, 381], [], none),
  (.aload_n 0, 9, 1, [], [], none),
  (.iload_n 2, 10, 1, [], [], none),
  (.putfield 13, 11, 3, [5, 1, 0, 13], [], none),
  (.aload_n 0, 14, 1, [], [], none),
  (.aload_n 3, 15, 1, [], [], none),
  (.putfield 17, 16, 3, [7, 1, 1, 13], [], none),
  (.return_, 19, 1, [], [], none)]
theorem aX14_init : AllE (EntOK RX14 (none) cX14_init) tX14_init := (AllE_c ⟨dX14_init_0, trivial, rfl⟩ (AllE_c ⟨dX14_init_1, trivial, rfl⟩ (AllE_c ⟨dX14_init_2, ⟨rpX14_1_13, trivial⟩, rfl⟩ (AllE_c ⟨dX14_init_5, trivial, rfl⟩ (AllE_c ⟨dX14_init_6, Or.inr (Or.inl ⟨_, _, _, _, rfl, q940, q201, q1043, q939, rfl, ⟨by decide +kernel, by decide +kernel, by decide +kernel⟩, by decide⟩), rfl⟩ (AllE_c ⟨dX14_init_9, trivial, rfl⟩ (AllE_c ⟨dX14_init_10, trivial, rfl⟩ (AllE_c ⟨dX14_init_11, ⟨rpX14_13_13, trivial⟩, rfl⟩ (AllE_c ⟨dX14_init_14, trivial, rfl⟩ (AllE_c ⟨dX14_init_15, trivial, rfl⟩ (AllE_c ⟨dX14_init_16, ⟨rpX14_17_13, trivial⟩, rfl⟩ (AllE_c ⟨dX14_init_19, rfl, rfl⟩ trivial))))))))))))
theorem okX14_init : TabOK RX14 (none) cX14_init tX14_init := ⟨aX14_init, by decide +kernel⟩
theorem rgX14_1_13 : FLg RX14 1 13 2 7 := ⟨_, _, _, _, cf_13, by decide, rfl, Or.inl q1046⟩
theorem rgX14_13_13 : FLg RX14 13 13 0 5 := ⟨_, _, _, _, cf_13, by decide, rfl, Or.inl q1044⟩
theorem rgX14_17_13 : FLg RX14 17 13 1 7 := ⟨_, _, _, _, cf_13, by decide, rfl, Or.inl q1045⟩
def tX14_at : List Ent := [
  (.aload_n 0, 0, 1, [], [], none),
  (.getfield 1, 1, 3, [7, 2, 13], [], none),
  (.aload_n 0, 4, 1, [], [], none),
  (.getfield 13, 5, 3, [5, 0, 13], [], none),
  (.aload_n 0, 8, 1, [], [], none),
  (.getfield 17, 9, 3, [7, 1, 13], [], none),
  (.aload_n 1, 12, 1, [], [], none),
  (.invokevirtual 21, 13, 3, [1], [(9, 278), (10, 281), (11, 283), (12, 285), (13, 287)], none),
  (.invokevirtual 25, 16, 3, [2], [(0, 172)], none),
  (.invokestatic 31, 19, 3, [1, 171], [], none),
  (.lreturn, 22, 1, [], [], none)]
theorem aX14_at : AllE (EntOK RX14 (Option.some Jvm.ClassFile.FieldType.long) cX14_at) tX14_at := (AllE_c ⟨dX14_at_0, trivial, rfl⟩ (AllE_c ⟨dX14_at_1, ⟨rgX14_1_13, trivial⟩, rfl⟩ (AllE_c ⟨dX14_at_4, trivial, rfl⟩ (AllE_c ⟨dX14_at_5, ⟨rgX14_13_13, trivial⟩, rfl⟩ (AllE_c ⟨dX14_at_8, trivial, rfl⟩ (AllE_c ⟨dX14_at_9, ⟨rgX14_17_13, trivial⟩, rfl⟩ (AllE_c ⟨dX14_at_12, trivial, rfl⟩ (AllE_c ⟨dX14_at_13, ⟨Or.inr (Or.inr (Or.inl ⟨_, _, _, ⟨"BreathTown$Value", "at", "(LBreathTown$Moment;)J"⟩, _, _, _, _, _, rfl, rfl, lw_five q1258 q1232 q1247 q1248 q202 (lw_meth q1249), Or.inr q1231, ⟨by decide +kernel, by decide +kernel, by decide +kernel⟩, by decide⟩)), ⟨Or.inr (Or.inr (Or.inl ⟨_, _, _, ⟨"BreathTown$Value", "at", "(LBreathTown$Moment;)J"⟩, _, _, _, _, _, rfl, rfl, lw_five q1258 q1232 q1298 q1259 q205 (lw_meth q1260), Or.inr q1231, ⟨by decide +kernel, by decide +kernel, by decide +kernel⟩, by decide⟩)), ⟨Or.inr (Or.inr (Or.inl ⟨_, _, _, ⟨"BreathTown$Value", "at", "(LBreathTown$Moment;)J"⟩, _, _, _, _, _, rfl, rfl, lw_five q1258 q1232 q1296 q1254 q206 (lw_meth q1255), Or.inr q1231, ⟨by decide +kernel, by decide +kernel, by decide +kernel⟩, by decide⟩)), ⟨Or.inr (Or.inr (Or.inl ⟨_, _, _, ⟨"BreathTown$Value", "at", "(LBreathTown$Moment;)J"⟩, _, _, _, _, _, rfl, rfl, lw_five q1258 q1232 q1233 q1234 q207 (lw_meth q1235), Or.inr q1231, ⟨by decide +kernel, by decide +kernel, by decide +kernel⟩, by decide⟩)), ⟨Or.inr (Or.inr (Or.inl ⟨_, _, _, ⟨"BreathTown$Value", "at", "(LBreathTown$Moment;)J"⟩, _, _, _, _, _, rfl, rfl, lw_five q1258 q1232 q1297 q1256 q208 (lw_meth q1257), Or.inr q1231, ⟨by decide +kernel, by decide +kernel, by decide +kernel⟩, by decide⟩)), trivial⟩⟩⟩⟩⟩, rfl⟩ (AllE_c ⟨dX14_at_16, ⟨Or.inr (Or.inl ⟨_, _, _, _, _, _, _, _, rfl, rfl, q1262, q1264, qs36, q177, q1265, ⟨by decide +kernel, by decide +kernel, by decide +kernel⟩, by decide⟩), trivial⟩, rfl⟩ (AllE_c ⟨dX14_at_19, Or.inr ⟨_, _, _, _, _, rfl, q1276, q1237, q177, q1238, ⟨by decide +kernel, by decide +kernel, by decide +kernel⟩, by decide⟩, rfl⟩ (AllE_c ⟨dX14_at_22, rfl, rfl⟩ trivial)))))))))))
theorem okX14_at : TabOK RX14 (Option.some Jvm.ClassFile.FieldType.long) cX14_at tX14_at := ⟨aX14_at, by decide +kernel⟩
theorem rpX15_7_14 : FL RX15 7 14 1 5 true := ⟨_, _, _, _, cf_14, by decide, rfl, rfl, Or.inl q1159, fun _ => rfl⟩
theorem rpX15_13_14 : FL RX15 13 14 2 5 true := ⟨_, _, _, _, cf_14, by decide, rfl, rfl, Or.inl q1161, fun _ => rfl⟩
theorem rpX15_16_14 : FL RX15 16 14 3 5 true := ⟨_, _, _, _, cf_14, by decide, rfl, rfl, Or.inl q1164, fun _ => rfl⟩
def tX15_init : List Ent := [
  (.aload_n 0, 0, 1, [], [], none),
  (.aload_n 1, 1, 1, [], [], none),
  (.invokespecial 1, 2, 3, [1, 272], [], none),
  (.aload_n 0, 5, 1, [], [], none),
  (.iload_n 2, 6, 1, [], [], none),
  (.putfield 7, 7, 3, [5, 1, 1, 14], [], none),
  (.aload_n 0, 10, 1, [], [], none),
  (.iload_n 3, 11, 1, [], [], none),
  (.putfield 13, 12, 3, [5, 1, 2, 14], [], none),
  (.aload_n 0, 15, 1, [], [], none),
  (.iload 4, 16, 2, [], [], none),
  (.putfield 16, 18, 3, [5, 1, 3, 14], [], none),
  (.return_, 21, 1, [], [], none)]
theorem aX15_init : AllE (EntOK RX15 (none) cX15_init) tX15_init := (AllE_c ⟨dX15_init_0, trivial, rfl⟩ (AllE_c ⟨dX15_init_1, trivial, rfl⟩ (AllE_c ⟨dX15_init_2, Or.inl ⟨_, _, _, rfl, q812, q195, q1158, q811, rfl, ⟨by decide +kernel, by decide +kernel, by decide +kernel⟩, by decide⟩, rfl⟩ (AllE_c ⟨dX15_init_5, trivial, rfl⟩ (AllE_c ⟨dX15_init_6, trivial, rfl⟩ (AllE_c ⟨dX15_init_7, ⟨rpX15_7_14, trivial⟩, rfl⟩ (AllE_c ⟨dX15_init_10, trivial, rfl⟩ (AllE_c ⟨dX15_init_11, trivial, rfl⟩ (AllE_c ⟨dX15_init_12, ⟨rpX15_13_14, trivial⟩, rfl⟩ (AllE_c ⟨dX15_init_15, trivial, rfl⟩ (AllE_c ⟨dX15_init_16, trivial, rfl⟩ (AllE_c ⟨dX15_init_18, ⟨rpX15_16_14, trivial⟩, rfl⟩ (AllE_c ⟨dX15_init_21, rfl, rfl⟩ trivial)))))))))))))
theorem okX15_init : TabOK RX15 (none) cX15_init tX15_init := ⟨aX15_init, by decide +kernel⟩
theorem rpX16_11_15 : FL RX16 11 15 3 6 false := ⟨_, _, _, _, cf_15, by decide, rfl, rfl, Or.inl q1636, fun h => by cases h⟩
theorem rpX16_17_15 : FL RX16 17 15 0 5 true := ⟨_, _, _, _, cf_15, by decide, rfl, rfl, Or.inl q1633, fun _ => rfl⟩
theorem rpX16_21_15 : FL RX16 21 15 1 7 true := ⟨_, _, _, _, cf_15, by decide, rfl, rfl, Or.inl q1634, fun _ => rfl⟩
theorem rpX16_25_15 : FL RX16 25 15 2 7 true := ⟨_, _, _, _, cf_15, by decide, rfl, rfl, Or.inl q1635, fun _ => rfl⟩
def tX16_init : List Ent := [
  (.aload_n 0, 0, 1, [], [], none),
  (.invokespecial 3, 1, 3, [99], [], none),
  (.aload_n 0, 4, 1, [], [], none),
  (.ldc2_w 9, 5, 3, [1, 1], [], none),
  (.putfield 11, 8, 3, [6, 0, 3, 15], [], none),
  (.aload_n 0, 11, 1, [], [], none),
  (.iload_n 1, 12, 1, [], [], none),
  (.putfield 17, 13, 3, [5, 1, 0, 15], [], none),
  (.aload_n 0, 16, 1, [], [], none),
  (.aload_n 2, 17, 1, [], [], none),
  (.putfield 21, 18, 3, [7, 1, 1, 15], [], none),
  (.aload_n 0, 21, 1, [], [], none),
  (.aload_n 3, 22, 1, [], [], none),
  (.putfield 25, 23, 3, [7, 1, 2, 15], [], none),
  (.return_, 26, 1, [], [], none)]
theorem aX16_init : AllE (EntOK RX16 (none) cX16_init) tX16_init := (AllE_c ⟨dX16_init_0, trivial, rfl⟩ (AllE_c ⟨dX16_init_1, ⟨q1631, q223, q224⟩, rfl⟩ (AllE_c ⟨dX16_init_4, trivial, rfl⟩ (AllE_c ⟨dX16_init_5, q1632, rfl⟩ (AllE_c ⟨dX16_init_8, ⟨rpX16_11_15, trivial⟩, rfl⟩ (AllE_c ⟨dX16_init_11, trivial, rfl⟩ (AllE_c ⟨dX16_init_12, trivial, rfl⟩ (AllE_c ⟨dX16_init_13, ⟨rpX16_17_15, trivial⟩, rfl⟩ (AllE_c ⟨dX16_init_16, trivial, rfl⟩ (AllE_c ⟨dX16_init_17, trivial, rfl⟩ (AllE_c ⟨dX16_init_18, ⟨rpX16_21_15, trivial⟩, rfl⟩ (AllE_c ⟨dX16_init_21, trivial, rfl⟩ (AllE_c ⟨dX16_init_22, trivial, rfl⟩ (AllE_c ⟨dX16_init_23, ⟨rpX16_25_15, trivial⟩, rfl⟩ (AllE_c ⟨dX16_init_26, rfl, rfl⟩ trivial)))))))))))))))
theorem okX16_init : TabOK RX16 (none) cX16_init tX16_init := ⟨aX16_init, by decide +kernel⟩
theorem rgX16_17_15 : FLg RX16 17 15 0 5 := ⟨_, _, _, _, cf_15, by decide, rfl, Or.inl q1633⟩
theorem rgX16_21_15 : FLg RX16 21 15 1 7 := ⟨_, _, _, _, cf_15, by decide, rfl, Or.inl q1634⟩
theorem rgX16_11_15 : FLg RX16 11 15 3 6 := ⟨_, _, _, _, cf_15, by decide, rfl, Or.inl q1636⟩
theorem rgX16_41_15 : FLg RX16 41 15 4 1 := ⟨_, _, _, _, cf_15, by decide, rfl, Or.inl q1637⟩
theorem rpX16_41_15 : FL RX16 41 15 4 1 false := ⟨_, _, _, _, cf_15, by decide, rfl, rfl, Or.inl q1637, fun h => by cases h⟩
theorem rgX16_25_15 : FLg RX16 25 15 2 7 := ⟨_, _, _, _, cf_15, by decide, rfl, Or.inl q1635⟩
def tX16_meets : List Ent := [
  (.aload_n 0, 0, 1, [], [], none),
  (.getfield 17, 1, 3, [5, 0, 15], [], none),
  (.iconst 3, 4, 1, [0, 3], [], none),
  (.if_icmp .ge 69, 5, 3, [38], [], none),
  (.aload_n 0, 8, 1, [], [], none),
  (.getfield 21, 9, 3, [7, 1, 15], [], none),
  (.aload_n 2, 12, 1, [], [], none),
  (.invokevirtual 29, 13, 3, [1], [(16, 293), (17, 295), (18, 297), (19, 299)], none),
  (.ifCond .ne 4, 16, 3, [10], [], none),
  (.return_, 19, 1, [], [], none),
  (.aload_n 0, 20, 1, [], [], none),
  (.aload_n 0, 21, 1, [], [], none),
  (.getfield 17, 22, 3, [5, 0, 15], [], none),
  (.iconst 2, 25, 1, [0, 2], [], none),
  (.if_icmp .ne 16, 26, 3, [22], [], none),
  (.lconst 0, 29, 1, [0], [], none),
  (.aload_n 0, 30, 1, [], [], none),
  (.getfield 11, 31, 3, [6, 3, 15], [], none),
  (.invokestatic 35, 34, 3, [2, 337], [], none),
  (.lconst 1, 37, 1, [1], [], none),
  (.ladd, 38, 1, [], [], none),
  (.goto 26, 39, 3, [33], [], none),
  (.aload_n 0, 42, 1, [], [], none),
  (.getfield 17, 43, 3, [5, 0, 15], [], none),
  (.ifCond .ne 17, 46, 3, [31], [], none),
  (.aload_n 0, 49, 1, [], [], none),
  (.getfield 41, 50, 3, [1, 4, 15], [], none),
  (.ifCond .eq 10, 53, 3, [31], [], none),
  (.aload_n 0, 56, 1, [], [], none),
  (.getfield 11, 57, 3, [6, 3, 15], [], none),
  (.goto 5, 60, 3, [33], [], none),
  (.iload_n 1, 63, 1, [], [], none),
  (.i2l, 64, 1, [], [], none),
  (.putfield 11, 65, 3, [6, 0, 3, 15], [], none),
  (.aload_n 0, 68, 1, [], [], none),
  (.iconst 1, 69, 1, [0, 1], [], none),
  (.putfield 41, 70, 3, [1, 0, 4, 15], [], none),
  (.return_, 73, 1, [], [], none),
  (.aload_n 0, 74, 1, [], [], none),
  (.getfield 25, 75, 3, [7, 2, 15], [], none),
  (.aload_n 2, 78, 1, [], [], none),
  (.invokevirtual 45, 79, 3, [1], [(9, 278), (10, 281), (11, 283), (12, 285), (13, 287)], none),
  (.lstore_n 3, 82, 1, [], [], none),
  (.aload_n 0, 83, 1, [], [], none),
  (.aload_n 0, 84, 1, [], [], none),
  (.getfield 41, 85, 3, [1, 4, 15], [], none),
  (.ifCond .ne 7, 88, 3, [49], [], none),
  (.lload_n 3, 91, 1, [], [], none),
  (.goto 47, 92, 3, [71], [], none),
  (.aload_n 0, 95, 1, [], [], none),
  (.getfield 17, 96, 3, [5, 0, 15], [], none),
  (.iconst 3, 99, 1, [0, 3], [], none),
  (.if_icmp .ne 12, 100, 3, [58], [], none),
  (.aload_n 0, 103, 1, [], [], none),
  (.getfield 11, 104, 3, [6, 3, 15], [], none),
  (.lload_n 3, 107, 1, [], [], none),
  (.ladd, 108, 1, [], [], none),
  (.goto 30, 109, 3, [71], [], none),
  (.aload_n 0, 112, 1, [], [], none),
  (.getfield 17, 113, 3, [5, 0, 15], [], none),
  (.iconst 4, 116, 1, [0, 4], [], none),
  (.if_icmp .ne 14, 117, 3, [67], [], none),
  (.aload_n 0, 120, 1, [], [], none),
  (.getfield 11, 121, 3, [6, 3, 15], [], none),
  (.lload_n 3, 124, 1, [], [], none),
  (.invokestatic 35, 125, 3, [2, 337], [], none),
  (.goto 11, 128, 3, [71], [], none),
  (.aload_n 0, 131, 1, [], [], none),
  (.getfield 11, 132, 3, [6, 3, 15], [], none),
  (.lload_n 3, 135, 1, [], [], none),
  (.invokestatic 51, 136, 3, [2, 336], [], none),
  (.putfield 11, 139, 3, [6, 0, 3, 15], [], none),
  (.aload_n 0, 142, 1, [], [], none),
  (.iconst 1, 143, 1, [0, 1], [], none),
  (.putfield 41, 144, 3, [1, 0, 4, 15], [], none),
  (.return_, 147, 1, [], [], none)]
theorem aX16_meets : AllE (EntOK RX16 (none) cX16_meets) tX16_meets := (AllE_c ⟨dX16_meets_0, trivial, rfl⟩ (AllE_c ⟨dX16_meets_1, ⟨rgX16_17_15, trivial⟩, rfl⟩ (AllE_c ⟨dX16_meets_4, trivial, rfl⟩ (AllE_c ⟨dX16_meets_5, trivial, rfl⟩ (AllE_c ⟨dX16_meets_8, trivial, rfl⟩ (AllE_c ⟨dX16_meets_9, ⟨rgX16_21_15, trivial⟩, rfl⟩ (AllE_c ⟨dX16_meets_12, trivial, rfl⟩ (AllE_c ⟨dX16_meets_13, ⟨Or.inr (Or.inr (Or.inl ⟨_, _, _, ⟨"BreathTown$Test", "holds", "(LBreathTown$Moment;)Z"⟩, _, _, _, _, _, rfl, rfl, lw_five q1654 q1656 q1660 q1661 q213 (lw_meth q1662), Or.inr q1655, ⟨by decide +kernel, by decide +kernel, by decide +kernel⟩, by decide⟩)), ⟨Or.inr (Or.inr (Or.inl ⟨_, _, _, ⟨"BreathTown$Test", "holds", "(LBreathTown$Moment;)Z"⟩, _, _, _, _, _, rfl, rfl, lw_five q1654 q1656 q1675 q1669 q214 (lw_meth q1670), Or.inr q1655, ⟨by decide +kernel, by decide +kernel, by decide +kernel⟩, by decide⟩)), ⟨Or.inr (Or.inr (Or.inl ⟨_, _, _, ⟨"BreathTown$Test", "holds", "(LBreathTown$Moment;)Z"⟩, _, _, _, _, _, rfl, rfl, lw_five q1654 q1656 q1657 q1658 q215 (lw_meth q1659), Or.inr q1655, ⟨by decide +kernel, by decide +kernel, by decide +kernel⟩, by decide⟩)), ⟨Or.inr (Or.inr (Or.inl ⟨_, _, _, ⟨"BreathTown$Test", "holds", "(LBreathTown$Moment;)Z"⟩, _, _, _, _, _, rfl, rfl, lw_five q1654 q1656 q1676 q1672 q216 (lw_meth q1673), Or.inr q1655, ⟨by decide +kernel, by decide +kernel, by decide +kernel⟩, by decide⟩)), trivial⟩⟩⟩⟩, rfl⟩ (AllE_c ⟨dX16_meets_16, trivial, rfl⟩ (AllE_c ⟨dX16_meets_19, rfl, rfl⟩ (AllE_c ⟨dX16_meets_20, trivial, rfl⟩ (AllE_c ⟨dX16_meets_21, trivial, rfl⟩ (AllE_c ⟨dX16_meets_22, ⟨rgX16_17_15, trivial⟩, rfl⟩ (AllE_c ⟨dX16_meets_25, trivial, rfl⟩ (AllE_c ⟨dX16_meets_26, trivial, rfl⟩ (AllE_c ⟨dX16_meets_29, trivial, rfl⟩ (AllE_c ⟨dX16_meets_30, trivial, rfl⟩ (AllE_c ⟨dX16_meets_31, ⟨rgX16_11_15, trivial⟩, rfl⟩ (AllE_c ⟨dX16_meets_34, Or.inl ⟨_, _, _, _, rfl, lw_S q1677 q1245 q197 q1246, ⟨by decide +kernel, by decide +kernel, by decide +kernel⟩, by decide⟩, rfl⟩ (AllE_c ⟨dX16_meets_37, trivial, rfl⟩ (AllE_c ⟨dX16_meets_38, trivial, rfl⟩ (AllE_c ⟨dX16_meets_39, trivial, rfl⟩ (AllE_c ⟨dX16_meets_42, trivial, rfl⟩ (AllE_c ⟨dX16_meets_43, ⟨rgX16_17_15, trivial⟩, rfl⟩ (AllE_c ⟨dX16_meets_46, trivial, rfl⟩ (AllE_c ⟨dX16_meets_49, trivial, rfl⟩ (AllE_c ⟨dX16_meets_50, ⟨rgX16_41_15, trivial⟩, rfl⟩ (AllE_c ⟨dX16_meets_53, trivial, rfl⟩ (AllE_c ⟨dX16_meets_56, trivial, rfl⟩ (AllE_c ⟨dX16_meets_57, ⟨rgX16_11_15, trivial⟩, rfl⟩ (AllE_c ⟨dX16_meets_60, trivial, rfl⟩ (AllE_c ⟨dX16_meets_63, trivial, rfl⟩ (AllE_c ⟨dX16_meets_64, trivial, rfl⟩ (AllE_c ⟨dX16_meets_65, ⟨rpX16_11_15, trivial⟩, rfl⟩ (AllE_c ⟨dX16_meets_68, trivial, rfl⟩ (AllE_c ⟨dX16_meets_69, trivial, rfl⟩ (AllE_c ⟨dX16_meets_70, ⟨rpX16_41_15, trivial⟩, rfl⟩ (AllE_c ⟨dX16_meets_73, rfl, rfl⟩ (AllE_c ⟨dX16_meets_74, trivial, rfl⟩ (AllE_c ⟨dX16_meets_75, ⟨rgX16_25_15, trivial⟩, rfl⟩ (AllE_c ⟨dX16_meets_78, trivial, rfl⟩ (AllE_c ⟨dX16_meets_79, ⟨Or.inr (Or.inr (Or.inl ⟨_, _, _, ⟨"BreathTown$Value", "at", "(LBreathTown$Moment;)J"⟩, _, _, _, _, _, rfl, rfl, lw_five q1678 q1232 q1247 q1248 q202 (lw_meth q1249), Or.inr q1231, ⟨by decide +kernel, by decide +kernel, by decide +kernel⟩, by decide⟩)), ⟨Or.inr (Or.inr (Or.inl ⟨_, _, _, ⟨"BreathTown$Value", "at", "(LBreathTown$Moment;)J"⟩, _, _, _, _, _, rfl, rfl, lw_five q1678 q1232 q1298 q1259 q205 (lw_meth q1260), Or.inr q1231, ⟨by decide +kernel, by decide +kernel, by decide +kernel⟩, by decide⟩)), ⟨Or.inr (Or.inr (Or.inl ⟨_, _, _, ⟨"BreathTown$Value", "at", "(LBreathTown$Moment;)J"⟩, _, _, _, _, _, rfl, rfl, lw_five q1678 q1232 q1296 q1254 q206 (lw_meth q1255), Or.inr q1231, ⟨by decide +kernel, by decide +kernel, by decide +kernel⟩, by decide⟩)), ⟨Or.inr (Or.inr (Or.inl ⟨_, _, _, ⟨"BreathTown$Value", "at", "(LBreathTown$Moment;)J"⟩, _, _, _, _, _, rfl, rfl, lw_five q1678 q1232 q1233 q1234 q207 (lw_meth q1235), Or.inr q1231, ⟨by decide +kernel, by decide +kernel, by decide +kernel⟩, by decide⟩)), ⟨Or.inr (Or.inr (Or.inl ⟨_, _, _, ⟨"BreathTown$Value", "at", "(LBreathTown$Moment;)J"⟩, _, _, _, _, _, rfl, rfl, lw_five q1678 q1232 q1297 q1256 q208 (lw_meth q1257), Or.inr q1231, ⟨by decide +kernel, by decide +kernel, by decide +kernel⟩, by decide⟩)), trivial⟩⟩⟩⟩⟩, rfl⟩ (AllE_c ⟨dX16_meets_82, trivial, rfl⟩ (AllE_c ⟨dX16_meets_83, trivial, rfl⟩ (AllE_c ⟨dX16_meets_84, trivial, rfl⟩ (AllE_c ⟨dX16_meets_85, ⟨rgX16_41_15, trivial⟩, rfl⟩ (AllE_c ⟨dX16_meets_88, trivial, rfl⟩ (AllE_c ⟨dX16_meets_91, trivial, rfl⟩ (AllE_c ⟨dX16_meets_92, trivial, rfl⟩ (AllE_c ⟨dX16_meets_95, trivial, rfl⟩ (AllE_c ⟨dX16_meets_96, ⟨rgX16_17_15, trivial⟩, rfl⟩ (AllE_c ⟨dX16_meets_99, trivial, rfl⟩ (AllE_c ⟨dX16_meets_100, trivial, rfl⟩ (AllE_c ⟨dX16_meets_103, trivial, rfl⟩ (AllE_c ⟨dX16_meets_104, ⟨rgX16_11_15, trivial⟩, rfl⟩ (AllE_c ⟨dX16_meets_107, trivial, rfl⟩ (AllE_c ⟨dX16_meets_108, trivial, rfl⟩ (AllE_c ⟨dX16_meets_109, trivial, rfl⟩ (AllE_c ⟨dX16_meets_112, trivial, rfl⟩ (AllE_c ⟨dX16_meets_113, ⟨rgX16_17_15, trivial⟩, rfl⟩ (AllE_c ⟨dX16_meets_116, trivial, rfl⟩ (AllE_c ⟨dX16_meets_117, trivial, rfl⟩ (AllE_c ⟨dX16_meets_120, trivial, rfl⟩ (AllE_c ⟨dX16_meets_121, ⟨rgX16_11_15, trivial⟩, rfl⟩ (AllE_c ⟨dX16_meets_124, trivial, rfl⟩ (AllE_c ⟨dX16_meets_125, Or.inl ⟨_, _, _, _, rfl, lw_S q1677 q1245 q197 q1246, ⟨by decide +kernel, by decide +kernel, by decide +kernel⟩, by decide⟩, rfl⟩ (AllE_c ⟨dX16_meets_128, trivial, rfl⟩ (AllE_c ⟨dX16_meets_131, trivial, rfl⟩ (AllE_c ⟨dX16_meets_132, ⟨rgX16_11_15, trivial⟩, rfl⟩ (AllE_c ⟨dX16_meets_135, trivial, rfl⟩ (AllE_c ⟨dX16_meets_136, Or.inl ⟨_, _, _, _, rfl, lw_S q1679 q1242 q197 q1243, ⟨by decide +kernel, by decide +kernel, by decide +kernel⟩, by decide⟩, rfl⟩ (AllE_c ⟨dX16_meets_139, ⟨rpX16_11_15, trivial⟩, rfl⟩ (AllE_c ⟨dX16_meets_142, trivial, rfl⟩ (AllE_c ⟨dX16_meets_143, trivial, rfl⟩ (AllE_c ⟨dX16_meets_144, ⟨rpX16_41_15, trivial⟩, rfl⟩ (AllE_c ⟨dX16_meets_147, rfl, rfl⟩ trivial))))))))))))))))))))))))))))))))))))))))))))))))))))))))))))))))))))))))))))
theorem okX16_meets : TabOK RX16 (none) cX16_meets tX16_meets := ⟨aX16_meets, by decide +kernel⟩
def tX16_answer : List Ent := [
  (.aload_n 0, 0, 1, [], [], none),
  (.getfield 41, 1, 3, [1, 4, 15], [], none),
  (.ifCond .ne 11, 4, 3, [7], [], none),
  (.aload_n 0, 7, 1, [], [], none),
  (.getfield 17, 8, 3, [5, 0, 15], [], none),
  (.iconst 2, 11, 1, [0, 2], [], none),
  (.if_icmp .ge 10, 12, 3, [10], [], none),
  (.aload_n 0, 15, 1, [], [], none),
  (.getfield 11, 16, 3, [6, 3, 15], [], none),
  (.goto 4, 19, 3, [11], [], none),
  (.lconst 0, 22, 1, [0], [], none),
  (.lreturn, 23, 1, [], [], none)]
theorem aX16_answer : AllE (EntOK RX16 (Option.some Jvm.ClassFile.FieldType.long) cX16_answer) tX16_answer := (AllE_c ⟨dX16_answer_0, trivial, rfl⟩ (AllE_c ⟨dX16_answer_1, ⟨rgX16_41_15, trivial⟩, rfl⟩ (AllE_c ⟨dX16_answer_4, trivial, rfl⟩ (AllE_c ⟨dX16_answer_7, trivial, rfl⟩ (AllE_c ⟨dX16_answer_8, ⟨rgX16_17_15, trivial⟩, rfl⟩ (AllE_c ⟨dX16_answer_11, trivial, rfl⟩ (AllE_c ⟨dX16_answer_12, trivial, rfl⟩ (AllE_c ⟨dX16_answer_15, trivial, rfl⟩ (AllE_c ⟨dX16_answer_16, ⟨rgX16_11_15, trivial⟩, rfl⟩ (AllE_c ⟨dX16_answer_19, trivial, rfl⟩ (AllE_c ⟨dX16_answer_22, trivial, rfl⟩ (AllE_c ⟨dX16_answer_23, rfl, rfl⟩ trivial))))))))))))
theorem okX16_answer : TabOK RX16 (Option.some Jvm.ClassFile.FieldType.long) cX16_answer tX16_answer := ⟨aX16_answer, by decide +kernel⟩
theorem rpX18_12_16 : FL RX18 12 16 0 7 true := ⟨_, _, _, _, cf_16, by decide, rfl, rfl, Or.inl q1571, fun _ => rfl⟩
theorem rpX18_18_16 : FL RX18 18 16 1 1 true := ⟨_, _, _, _, cf_16, by decide, rfl, rfl, Or.inl q1573, fun _ => rfl⟩
def tX18_init : List Ent := [
  (.aload_n 0, 0, 1, [], [], none),
  (.invokespecial 1, 1, 3, [0, 380], [], none),
  (.aload_n 0, 4, 1, [], [], none),
  (.new 7, 5, 3, [20, 3], [], none),
  (.dup, 8, 1, [], [], none),
  (.iconst 2, 9, 1, [0, 2], [], none),
  (.invokespecial 9, 10, 3, [1, 300], [], none),
  (.putfield 12, 13, 3, [7, 1, 0, 16], [], none),
  (.aload_n 0, 16, 1, [], [], none),
  (.iload_n 1, 17, 1, [], [], none),
  (.putfield 18, 18, 3, [1, 1, 1, 16], [], none),
  (.return_, 21, 1, [], [], none)]
theorem aX18_init : AllE (EntOK RX18 (none) cX18_init) tX18_init := (AllE_c ⟨dX18_init_0, trivial, rfl⟩ (AllE_c ⟨dX18_init_1, Or.inr (Or.inl ⟨_, _, _, _, rfl, q1567, q212, q1565, q1566, rfl, ⟨by decide +kernel, by decide +kernel, by decide +kernel⟩, by decide⟩), rfl⟩ (AllE_c ⟨dX18_init_4, trivial, rfl⟩ (AllE_c ⟨dX18_init_5, ⟨_, _, _, cf_20, q1569, q232, q181⟩, rfl⟩ (AllE_c ⟨dX18_init_8, trivial, rfl⟩ (AllE_c ⟨dX18_init_9, trivial, rfl⟩ (AllE_c ⟨dX18_init_10, Or.inl ⟨_, _, _, rfl, q235, q181, q1570, q234, rfl, ⟨by decide +kernel, by decide +kernel, by decide +kernel⟩, by decide⟩, rfl⟩ (AllE_c ⟨dX18_init_13, ⟨rpX18_12_16, trivial⟩, rfl⟩ (AllE_c ⟨dX18_init_16, trivial, rfl⟩ (AllE_c ⟨dX18_init_17, trivial, rfl⟩ (AllE_c ⟨dX18_init_18, ⟨rpX18_18_16, trivial⟩, rfl⟩ (AllE_c ⟨dX18_init_21, rfl, rfl⟩ trivial))))))))))))
theorem okX18_init : TabOK RX18 (none) cX18_init tX18_init := ⟨aX18_init, by decide +kernel⟩
theorem rgX18_12_16 : FLg RX18 12 16 0 7 := ⟨_, _, _, _, cf_16, by decide, rfl, Or.inl q1571⟩
theorem rgX18_18_16 : FLg RX18 18 16 1 1 := ⟨_, _, _, _, cf_16, by decide, rfl, Or.inl q1573⟩
def tX18_holds : List Ent := [
  (.iconst 0, 0, 1, [0, 0], [], none),
  (.istore_n 2, 1, 1, [], [], none),
  (.iload_n 2, 2, 1, [], [], none),
  (.aload_n 0, 3, 1, [], [], none),
  (.getfield 12, 4, 3, [7, 0, 16], [], none),
  (.invokeinterface 22 1, 7, 5, [0], [(20, 301)], none),
  (.if_icmp .ge 46, 12, 3, [26], [], none),
  (.aload_n 0, 15, 1, [], [], none),
  (.getfield 12, 16, 3, [7, 0, 16], [], none),
  (.iload_n 2, 19, 1, [], [], none),
  (.invokeinterface 28 2, 20, 5, [1], [(20, 302)], none),
  (.checkcast 2, 25, 3, [16, 17, 18, 19], [], none),
  (.aload_n 1, 28, 1, [], [], none),
  (.invokevirtual 32, 29, 3, [1], [(16, 293), (17, 295), (18, 297), (19, 299)], none),
  (.aload_n 0, 32, 1, [], [], none),
  (.getfield 18, 33, 3, [1, 1, 16], [], none),
  (.if_icmp .eq 16, 36, 3, [24], [], none),
  (.aload_n 0, 39, 1, [], [], none),
  (.getfield 18, 40, 3, [1, 1, 16], [], none),
  (.ifCond .ne 7, 43, 3, [22], [], none),
  (.iconst 1, 46, 1, [0, 1], [], none),
  (.goto 4, 47, 3, [23], [], none),
  (.iconst 0, 50, 1, [0, 0], [], none),
  (.ireturn, 51, 1, [1], [], none),
  (.iinc 2 1, 52, 3, [0, 1], [], none),
  (.goto (-53), 55, 3, [2], [], none),
  (.aload_n 0, 58, 1, [], [], none),
  (.getfield 18, 59, 3, [1, 1, 16], [], none),
  (.ireturn, 62, 1, [1], [], none)]
theorem aX18_holds : AllE (EntOK RX18 (Option.some Jvm.ClassFile.FieldType.boolean) cX18_holds) tX18_holds := (AllE_c ⟨dX18_holds_0, trivial, rfl⟩ (AllE_c ⟨dX18_holds_1, trivial, rfl⟩ (AllE_c ⟨dX18_holds_2, trivial, rfl⟩ (AllE_c ⟨dX18_holds_3, trivial, rfl⟩ (AllE_c ⟨dX18_holds_4, ⟨rgX18_12_16, trivial⟩, rfl⟩ (AllE_c ⟨dX18_holds_7, ⟨⟨_, _, _, _, _, _, _, rfl, rfl, face_size, lw_four q1664 q755 q757 q181 (lw_meth q759), ⟨by decide +kernel, by decide +kernel, by decide +kernel⟩, by decide⟩, trivial⟩, rfl⟩ (AllE_c ⟨dX18_holds_12, trivial, rfl⟩ (AllE_c ⟨dX18_holds_15, trivial, rfl⟩ (AllE_c ⟨dX18_holds_16, ⟨rgX18_12_16, trivial⟩, rfl⟩ (AllE_c ⟨dX18_holds_19, trivial, rfl⟩ (AllE_c ⟨dX18_holds_20, ⟨⟨_, _, _, _, _, _, _, rfl, rfl, face_get, lw_four q1666 q793 q795 q181 (lw_meth q797), ⟨by decide +kernel, by decide +kernel, by decide +kernel⟩, by decide⟩, trivial⟩, rfl⟩ (AllE_c ⟨dX18_holds_25, Or.inr ⟨_, q1667, ⟨Or.inl ⟨_, _, _, rfl, by decide, Or.inr q2651⟩, ⟨Or.inl ⟨_, _, _, rfl, by decide, Or.inr q2652⟩, ⟨Or.inl ⟨_, _, _, rfl, by decide, Or.inr q2650⟩, ⟨Or.inl ⟨_, _, _, rfl, by decide, Or.inr q2653⟩, trivial⟩⟩⟩⟩⟩, rfl⟩ (AllE_c ⟨dX18_holds_28, trivial, rfl⟩ (AllE_c ⟨dX18_holds_29, ⟨Or.inr (Or.inr (Or.inl ⟨_, _, _, ⟨"BreathTown$Test", "holds", "(LBreathTown$Moment;)Z"⟩, _, _, _, _, _, rfl, rfl, lw_five q1668 q1656 q1660 q1661 q213 (lw_meth q1662), Or.inr q1655, ⟨by decide +kernel, by decide +kernel, by decide +kernel⟩, by decide⟩)), ⟨Or.inr (Or.inr (Or.inl ⟨_, _, _, ⟨"BreathTown$Test", "holds", "(LBreathTown$Moment;)Z"⟩, _, _, _, _, _, rfl, rfl, lw_five q1668 q1656 q1675 q1669 q214 (lw_meth q1670), Or.inr q1655, ⟨by decide +kernel, by decide +kernel, by decide +kernel⟩, by decide⟩)), ⟨Or.inr (Or.inr (Or.inl ⟨_, _, _, ⟨"BreathTown$Test", "holds", "(LBreathTown$Moment;)Z"⟩, _, _, _, _, _, rfl, rfl, lw_five q1668 q1656 q1657 q1658 q215 (lw_meth q1659), Or.inr q1655, ⟨by decide +kernel, by decide +kernel, by decide +kernel⟩, by decide⟩)), ⟨Or.inr (Or.inr (Or.inl ⟨_, _, _, ⟨"BreathTown$Test", "holds", "(LBreathTown$Moment;)Z"⟩, _, _, _, _, _, rfl, rfl, lw_five q1668 q1656 q1676 q1672 q216 (lw_meth q1673), Or.inr q1655, ⟨by decide +kernel, by decide +kernel, by decide +kernel⟩, by decide⟩)), trivial⟩⟩⟩⟩, rfl⟩ (AllE_c ⟨dX18_holds_32, trivial, rfl⟩ (AllE_c ⟨dX18_holds_33, ⟨rgX18_18_16, trivial⟩, rfl⟩ (AllE_c ⟨dX18_holds_36, trivial, rfl⟩ (AllE_c ⟨dX18_holds_39, trivial, rfl⟩ (AllE_c ⟨dX18_holds_40, ⟨rgX18_18_16, trivial⟩, rfl⟩ (AllE_c ⟨dX18_holds_43, trivial, rfl⟩ (AllE_c ⟨dX18_holds_46, trivial, rfl⟩ (AllE_c ⟨dX18_holds_47, trivial, rfl⟩ (AllE_c ⟨dX18_holds_50, trivial, rfl⟩ (AllE_c ⟨dX18_holds_51, rfl, rfl⟩ (AllE_c ⟨dX18_holds_52, trivial, rfl⟩ (AllE_c ⟨dX18_holds_55, trivial, rfl⟩ (AllE_c ⟨dX18_holds_58, trivial, rfl⟩ (AllE_c ⟨dX18_holds_59, ⟨rgX18_18_16, trivial⟩, rfl⟩ (AllE_c ⟨dX18_holds_62, rfl, rfl⟩ trivial)))))))))))))))))))))))))))))
theorem okX18_holds : TabOK RX18 (Option.some Jvm.ClassFile.FieldType.boolean) cX18_holds tX18_holds := ⟨aX18_holds, by decide +kernel⟩
theorem rpX19_7_17 : FL RX19 7 17 0 7 true := ⟨_, _, _, _, cf_17, by decide, rfl, rfl, Or.inl q1598, fun _ => rfl⟩
def tX19_init : List Ent := [
  (.aload_n 0, 0, 1, [], [], none),
  (.invokespecial 1, 1, 3, [0, 380], [], none),
  (.aload_n 0, 4, 1, [], [], none),
  (.aload_n 1, 5, 1, [], [], none),
  (.putfield 7, 6, 3, [7, 1, 0, 17], [], none),
  (.return_, 9, 1, [], [], none)]
theorem aX19_init : AllE (EntOK RX19 (none) cX19_init) tX19_init := (AllE_c ⟨dX19_init_0, trivial, rfl⟩ (AllE_c ⟨dX19_init_1, Or.inr (Or.inl ⟨_, _, _, _, rfl, q1567, q212, q1597, q1566, rfl, ⟨by decide +kernel, by decide +kernel, by decide +kernel⟩, by decide⟩), rfl⟩ (AllE_c ⟨dX19_init_4, trivial, rfl⟩ (AllE_c ⟨dX19_init_5, trivial, rfl⟩ (AllE_c ⟨dX19_init_6, ⟨rpX19_7_17, trivial⟩, rfl⟩ (AllE_c ⟨dX19_init_9, rfl, rfl⟩ trivial))))))
theorem okX19_init : TabOK RX19 (none) cX19_init tX19_init := ⟨aX19_init, by decide +kernel⟩
theorem rgX19_7_17 : FLg RX19 7 17 0 7 := ⟨_, _, _, _, cf_17, by decide, rfl, Or.inl q1598⟩
def tX19_holds : List Ent := [
  (.aload_n 0, 0, 1, [], [], none),
  (.getfield 7, 1, 3, [7, 0, 17], [], none),
  (.aload_n 1, 4, 1, [], [], none),
  (.invokevirtual 13, 5, 3, [1], [(16, 293), (17, 295), (18, 297), (19, 299)], none),
  (.ifCond .ne 7, 8, 3, [7], [], none),
  (.iconst 1, 11, 1, [0, 1], [], none),
  (.goto 4, 12, 3, [8], [], none),
  (.iconst 0, 15, 1, [0, 0], [], none),
  (.ireturn, 16, 1, [1], [], none)]
theorem aX19_holds : AllE (EntOK RX19 (Option.some Jvm.ClassFile.FieldType.boolean) cX19_holds) tX19_holds := (AllE_c ⟨dX19_holds_0, trivial, rfl⟩ (AllE_c ⟨dX19_holds_1, ⟨rgX19_7_17, trivial⟩, rfl⟩ (AllE_c ⟨dX19_holds_4, trivial, rfl⟩ (AllE_c ⟨dX19_holds_5, ⟨Or.inr (Or.inr (Or.inl ⟨_, _, _, ⟨"BreathTown$Test", "holds", "(LBreathTown$Moment;)Z"⟩, _, _, _, _, _, rfl, rfl, lw_five q1671 q1656 q1660 q1661 q213 (lw_meth q1662), Or.inr q1655, ⟨by decide +kernel, by decide +kernel, by decide +kernel⟩, by decide⟩)), ⟨Or.inr (Or.inr (Or.inl ⟨_, _, _, ⟨"BreathTown$Test", "holds", "(LBreathTown$Moment;)Z"⟩, _, _, _, _, _, rfl, rfl, lw_five q1671 q1656 q1675 q1669 q214 (lw_meth q1670), Or.inr q1655, ⟨by decide +kernel, by decide +kernel, by decide +kernel⟩, by decide⟩)), ⟨Or.inr (Or.inr (Or.inl ⟨_, _, _, ⟨"BreathTown$Test", "holds", "(LBreathTown$Moment;)Z"⟩, _, _, _, _, _, rfl, rfl, lw_five q1671 q1656 q1657 q1658 q215 (lw_meth q1659), Or.inr q1655, ⟨by decide +kernel, by decide +kernel, by decide +kernel⟩, by decide⟩)), ⟨Or.inr (Or.inr (Or.inl ⟨_, _, _, ⟨"BreathTown$Test", "holds", "(LBreathTown$Moment;)Z"⟩, _, _, _, _, _, rfl, rfl, lw_five q1671 q1656 q1676 q1672 q216 (lw_meth q1673), Or.inr q1655, ⟨by decide +kernel, by decide +kernel, by decide +kernel⟩, by decide⟩)), trivial⟩⟩⟩⟩, rfl⟩ (AllE_c ⟨dX19_holds_8, trivial, rfl⟩ (AllE_c ⟨dX19_holds_11, trivial, rfl⟩ (AllE_c ⟨dX19_holds_12, trivial, rfl⟩ (AllE_c ⟨dX19_holds_15, trivial, rfl⟩ (AllE_c ⟨dX19_holds_16, rfl, rfl⟩ trivial)))))))))
theorem okX19_holds : TabOK RX19 (Option.some Jvm.ClassFile.FieldType.boolean) cX19_holds tX19_holds := ⟨aX19_holds, by decide +kernel⟩
def tX20_init : List Ent := [
  (.aload_n 0, 0, 1, [], [], none),
  (.invokespecial 1, 1, 3, [0, 380], [], none),
  (.return_, 4, 1, [], [], none)]
theorem aX20_init : AllE (EntOK RX20 (none) cX20_init) tX20_init := (AllE_c ⟨dX20_init_0, trivial, rfl⟩ (AllE_c ⟨dX20_init_1, Or.inr (Or.inl ⟨_, _, _, _, rfl, q1567, q212, q1608, q1566, rfl, ⟨by decide +kernel, by decide +kernel, by decide +kernel⟩, by decide⟩), rfl⟩ (AllE_c ⟨dX20_init_4, rfl, rfl⟩ trivial)))
theorem okX20_init : TabOK RX20 (none) cX20_init tX20_init := ⟨aX20_init, by decide +kernel⟩
def tX20_holds : List Ent := [
  (.iconst 1, 0, 1, [0, 1], [], none),
  (.ireturn, 1, 1, [1], [], none)]
theorem aX20_holds : AllE (EntOK RX20 (Option.some Jvm.ClassFile.FieldType.boolean) cX20_holds) tX20_holds := (AllE_c ⟨dX20_holds_0, trivial, rfl⟩ (AllE_c ⟨dX20_holds_1, rfl, rfl⟩ trivial))
theorem okX20_holds : TabOK RX20 (Option.some Jvm.ClassFile.FieldType.boolean) cX20_holds tX20_holds := ⟨aX20_holds, by decide +kernel⟩
theorem rpX21_7_19 : FL RX21 7 19 0 7 true := ⟨_, _, _, _, cf_19, by decide, rfl, rfl, Or.inl q1616, fun _ => rfl⟩
theorem rpX21_13_19 : FL RX21 13 19 2 5 true := ⟨_, _, _, _, cf_19, by decide, rfl, rfl, Or.inl q1618, fun _ => rfl⟩
theorem rpX21_17_19 : FL RX21 17 19 1 7 true := ⟨_, _, _, _, cf_19, by decide, rfl, rfl, Or.inl q1617, fun _ => rfl⟩
def tX21_init : List Ent := [
  (.aload_n 0, 0, 1, [], [], none),
  (.invokespecial 1, 1, 3, [0, 380], [], none),
  (.aload_n 0, 4, 1, [], [], none),
  (.aload_n 1, 5, 1, [], [], none),
  (.putfield 7, 6, 3, [7, 1, 0, 19], [], none),
  (.aload_n 0, 9, 1, [], [], none),
  (.iload_n 2, 10, 1, [], [], none),
  (.putfield 13, 11, 3, [5, 1, 2, 19], [], none),
  (.aload_n 0, 14, 1, [], [], none),
  (.aload_n 3, 15, 1, [], [], none),
  (.putfield 17, 16, 3, [7, 1, 1, 19], [], none),
  (.return_, 19, 1, [], [], none)]
theorem aX21_init : AllE (EntOK RX21 (none) cX21_init) tX21_init := (AllE_c ⟨dX21_init_0, trivial, rfl⟩ (AllE_c ⟨dX21_init_1, Or.inr (Or.inl ⟨_, _, _, _, rfl, q1567, q212, q1615, q1566, rfl, ⟨by decide +kernel, by decide +kernel, by decide +kernel⟩, by decide⟩), rfl⟩ (AllE_c ⟨dX21_init_4, trivial, rfl⟩ (AllE_c ⟨dX21_init_5, trivial, rfl⟩ (AllE_c ⟨dX21_init_6, ⟨rpX21_7_19, trivial⟩, rfl⟩ (AllE_c ⟨dX21_init_9, trivial, rfl⟩ (AllE_c ⟨dX21_init_10, trivial, rfl⟩ (AllE_c ⟨dX21_init_11, ⟨rpX21_13_19, trivial⟩, rfl⟩ (AllE_c ⟨dX21_init_14, trivial, rfl⟩ (AllE_c ⟨dX21_init_15, trivial, rfl⟩ (AllE_c ⟨dX21_init_16, ⟨rpX21_17_19, trivial⟩, rfl⟩ (AllE_c ⟨dX21_init_19, rfl, rfl⟩ trivial))))))))))))
theorem okX21_init : TabOK RX21 (none) cX21_init tX21_init := ⟨aX21_init, by decide +kernel⟩
theorem rgX21_7_19 : FLg RX21 7 19 0 7 := ⟨_, _, _, _, cf_19, by decide, rfl, Or.inl q1616⟩
theorem rgX21_17_19 : FLg RX21 17 19 1 7 := ⟨_, _, _, _, cf_19, by decide, rfl, Or.inl q1617⟩
theorem rgX21_13_19 : FLg RX21 13 19 2 5 := ⟨_, _, _, _, cf_19, by decide, rfl, Or.inl q1618⟩
def tX21_holds : List Ent := [
  (.aload_n 0, 0, 1, [], [], none),
  (.getfield 7, 1, 3, [7, 0, 19], [], none),
  (.aload_n 1, 4, 1, [], [], none),
  (.invokevirtual 20, 5, 3, [1], [(9, 278), (10, 281), (11, 283), (12, 285), (13, 287)], none),
  (.lstore_n 2, 8, 1, [], [], none),
  (.aload_n 0, 9, 1, [], [], none),
  (.getfield 17, 10, 3, [7, 1, 19], [], none),
  (.aload_n 1, 13, 1, [], [], none),
  (.invokevirtual 20, 14, 3, [1], [(9, 278), (10, 281), (11, 283), (12, 285), (13, 287)], none),
  (.lstore 4, 17, 2, [], [], none),
  (.aload_n 0, 19, 1, [], [], none),
  (.getfield 13, 20, 3, [5, 2, 19], [], none),
  (.bipush 60, 23, 2, [0, 60], [], none),
  (.if_icmp .ne 18, 25, 3, [22], [], none),
  (.lload_n 2, 28, 1, [], [], none),
  (.lload 4, 29, 2, [], [], none),
  (.lcmp, 31, 1, [], [], none),
  (.ifCond .ge 7, 32, 3, [20], [], none),
  (.iconst 1, 35, 1, [0, 1], [], none),
  (.goto 43, 36, 3, [41], [], none),
  (.iconst 0, 39, 1, [0, 0], [], none),
  (.goto 39, 40, 3, [41], [], none),
  (.aload_n 0, 43, 1, [], [], none),
  (.getfield 13, 44, 3, [5, 2, 19], [], none),
  (.bipush 62, 47, 2, [0, 62], [], none),
  (.if_icmp .ne 18, 49, 3, [34], [], none),
  (.lload_n 2, 52, 1, [], [], none),
  (.lload 4, 53, 2, [], [], none),
  (.lcmp, 55, 1, [], [], none),
  (.ifCond .le 7, 56, 3, [32], [], none),
  (.iconst 1, 59, 1, [0, 1], [], none),
  (.goto 19, 60, 3, [41], [], none),
  (.iconst 0, 63, 1, [0, 0], [], none),
  (.goto 15, 64, 3, [41], [], none),
  (.lload_n 2, 67, 1, [], [], none),
  (.lload 4, 68, 2, [], [], none),
  (.lcmp, 70, 1, [], [], none),
  (.ifCond .ne 7, 71, 3, [40], [], none),
  (.iconst 1, 74, 1, [0, 1], [], none),
  (.goto 4, 75, 3, [41], [], none),
  (.iconst 0, 78, 1, [0, 0], [], none),
  (.ireturn, 79, 1, [1], [], none)]
theorem aX21_holds : AllE (EntOK RX21 (Option.some Jvm.ClassFile.FieldType.boolean) cX21_holds) tX21_holds := (AllE_c ⟨dX21_holds_0, trivial, rfl⟩ (AllE_c ⟨dX21_holds_1, ⟨rgX21_7_19, trivial⟩, rfl⟩ (AllE_c ⟨dX21_holds_4, trivial, rfl⟩ (AllE_c ⟨dX21_holds_5, ⟨Or.inr (Or.inr (Or.inl ⟨_, _, _, ⟨"BreathTown$Value", "at", "(LBreathTown$Moment;)J"⟩, _, _, _, _, _, rfl, rfl, lw_five q1674 q1232 q1247 q1248 q202 (lw_meth q1249), Or.inr q1231, ⟨by decide +kernel, by decide +kernel, by decide +kernel⟩, by decide⟩)), ⟨Or.inr (Or.inr (Or.inl ⟨_, _, _, ⟨"BreathTown$Value", "at", "(LBreathTown$Moment;)J"⟩, _, _, _, _, _, rfl, rfl, lw_five q1674 q1232 q1298 q1259 q205 (lw_meth q1260), Or.inr q1231, ⟨by decide +kernel, by decide +kernel, by decide +kernel⟩, by decide⟩)), ⟨Or.inr (Or.inr (Or.inl ⟨_, _, _, ⟨"BreathTown$Value", "at", "(LBreathTown$Moment;)J"⟩, _, _, _, _, _, rfl, rfl, lw_five q1674 q1232 q1296 q1254 q206 (lw_meth q1255), Or.inr q1231, ⟨by decide +kernel, by decide +kernel, by decide +kernel⟩, by decide⟩)), ⟨Or.inr (Or.inr (Or.inl ⟨_, _, _, ⟨"BreathTown$Value", "at", "(LBreathTown$Moment;)J"⟩, _, _, _, _, _, rfl, rfl, lw_five q1674 q1232 q1233 q1234 q207 (lw_meth q1235), Or.inr q1231, ⟨by decide +kernel, by decide +kernel, by decide +kernel⟩, by decide⟩)), ⟨Or.inr (Or.inr (Or.inl ⟨_, _, _, ⟨"BreathTown$Value", "at", "(LBreathTown$Moment;)J"⟩, _, _, _, _, _, rfl, rfl, lw_five q1674 q1232 q1297 q1256 q208 (lw_meth q1257), Or.inr q1231, ⟨by decide +kernel, by decide +kernel, by decide +kernel⟩, by decide⟩)), trivial⟩⟩⟩⟩⟩, rfl⟩ (AllE_c ⟨dX21_holds_8, trivial, rfl⟩ (AllE_c ⟨dX21_holds_9, trivial, rfl⟩ (AllE_c ⟨dX21_holds_10, ⟨rgX21_17_19, trivial⟩, rfl⟩ (AllE_c ⟨dX21_holds_13, trivial, rfl⟩ (AllE_c ⟨dX21_holds_14, ⟨Or.inr (Or.inr (Or.inl ⟨_, _, _, ⟨"BreathTown$Value", "at", "(LBreathTown$Moment;)J"⟩, _, _, _, _, _, rfl, rfl, lw_five q1674 q1232 q1247 q1248 q202 (lw_meth q1249), Or.inr q1231, ⟨by decide +kernel, by decide +kernel, by decide +kernel⟩, by decide⟩)), ⟨Or.inr (Or.inr (Or.inl ⟨_, _, _, ⟨"BreathTown$Value", "at", "(LBreathTown$Moment;)J"⟩, _, _, _, _, _, rfl, rfl, lw_five q1674 q1232 q1298 q1259 q205 (lw_meth q1260), Or.inr q1231, ⟨by decide +kernel, by decide +kernel, by decide +kernel⟩, by decide⟩)), ⟨Or.inr (Or.inr (Or.inl ⟨_, _, _, ⟨"BreathTown$Value", "at", "(LBreathTown$Moment;)J"⟩, _, _, _, _, _, rfl, rfl, lw_five q1674 q1232 q1296 q1254 q206 (lw_meth q1255), Or.inr q1231, ⟨by decide +kernel, by decide +kernel, by decide +kernel⟩, by decide⟩)), ⟨Or.inr (Or.inr (Or.inl ⟨_, _, _, ⟨"BreathTown$Value", "at", "(LBreathTown$Moment;)J"⟩, _, _, _, _, _, rfl, rfl, lw_five q1674 q1232 q1233 q1234 q207 (lw_meth q1235), Or.inr q1231, ⟨by decide +kernel, by decide +kernel, by decide +kernel⟩, by decide⟩)), ⟨Or.inr (Or.inr (Or.inl ⟨_, _, _, ⟨"BreathTown$Value", "at", "(LBreathTown$Moment;)J"⟩, _, _, _, _, _, rfl, rfl, lw_five q1674 q1232 q1297 q1256 q208 (lw_meth q1257), Or.inr q1231, ⟨by decide +kernel, by decide +kernel, by decide +kernel⟩, by decide⟩)), trivial⟩⟩⟩⟩⟩, rfl⟩ (AllE_c ⟨dX21_holds_17, trivial, rfl⟩ (AllE_c ⟨dX21_holds_19, trivial, rfl⟩ (AllE_c ⟨dX21_holds_20, ⟨rgX21_13_19, trivial⟩, rfl⟩ (AllE_c ⟨dX21_holds_23, trivial, rfl⟩ (AllE_c ⟨dX21_holds_25, trivial, rfl⟩ (AllE_c ⟨dX21_holds_28, trivial, rfl⟩ (AllE_c ⟨dX21_holds_29, trivial, rfl⟩ (AllE_c ⟨dX21_holds_31, trivial, rfl⟩ (AllE_c ⟨dX21_holds_32, trivial, rfl⟩ (AllE_c ⟨dX21_holds_35, trivial, rfl⟩ (AllE_c ⟨dX21_holds_36, trivial, rfl⟩ (AllE_c ⟨dX21_holds_39, trivial, rfl⟩ (AllE_c ⟨dX21_holds_40, trivial, rfl⟩ (AllE_c ⟨dX21_holds_43, trivial, rfl⟩ (AllE_c ⟨dX21_holds_44, ⟨rgX21_13_19, trivial⟩, rfl⟩ (AllE_c ⟨dX21_holds_47, trivial, rfl⟩ (AllE_c ⟨dX21_holds_49, trivial, rfl⟩ (AllE_c ⟨dX21_holds_52, trivial, rfl⟩ (AllE_c ⟨dX21_holds_53, trivial, rfl⟩ (AllE_c ⟨dX21_holds_55, trivial, rfl⟩ (AllE_c ⟨dX21_holds_56, trivial, rfl⟩ (AllE_c ⟨dX21_holds_59, trivial, rfl⟩ (AllE_c ⟨dX21_holds_60, trivial, rfl⟩ (AllE_c ⟨dX21_holds_63, trivial, rfl⟩ (AllE_c ⟨dX21_holds_64, trivial, rfl⟩ (AllE_c ⟨dX21_holds_67, trivial, rfl⟩ (AllE_c ⟨dX21_holds_68, trivial, rfl⟩ (AllE_c ⟨dX21_holds_70, trivial, rfl⟩ (AllE_c ⟨dX21_holds_71, trivial, rfl⟩ (AllE_c ⟨dX21_holds_74, trivial, rfl⟩ (AllE_c ⟨dX21_holds_75, trivial, rfl⟩ (AllE_c ⟨dX21_holds_78, trivial, rfl⟩ (AllE_c ⟨dX21_holds_79, rfl, rfl⟩ trivial))))))))))))))))))))))))))))))))))))))))))
theorem okX21_holds : TabOK RX21 (Option.some Jvm.ClassFile.FieldType.boolean) cX21_holds tX21_holds := ⟨aX21_holds, by decide +kernel⟩
def tX17_init : List Ent := [
  (.aload_n 0, 0, 1, [], [], none),
  (.invokespecial 1, 1, 3, [99], [], none),
  (.return_, 4, 1, [], [], none)]
theorem aX17_init : AllE (EntOK RX17 (none) cX17_init) tX17_init := (AllE_c ⟨dX17_init_0, trivial, rfl⟩ (AllE_c ⟨dX17_init_1, ⟨q1568, q223, q224⟩, rfl⟩ (AllE_c ⟨dX17_init_4, rfl, rfl⟩ trivial)))
theorem okX17_init : TabOK RX17 (none) cX17_init tX17_init := ⟨aX17_init, by decide +kernel⟩
def tX9_init : List Ent := [
  (.aload_n 0, 0, 1, [], [], none),
  (.invokespecial 1, 1, 3, [99], [], none),
  (.return_, 4, 1, [], [], none)]
theorem aX9_init : AllE (EntOK RX9 (none) cX9_init) tX9_init := (AllE_c ⟨dX9_init_0, trivial, rfl⟩ (AllE_c ⟨dX9_init_1, ⟨q941, q223, q224⟩, rfl⟩ (AllE_c ⟨dX9_init_4, rfl, rfl⟩ trivial)))
theorem okX9_init : TabOK RX9 (none) cX9_init tX9_init := ⟨aX9_init, by decide +kernel⟩
