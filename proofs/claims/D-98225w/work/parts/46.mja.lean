set_option maxRecDepth 100000
theorem rpJ2_9_20 : FL RJ2 9 20 1 7 false := ⟨_, _, _, _, cf_20, by decide, rfl, rfl, Or.inl q247, fun h => by cases h⟩
def tJ2_init : List Ent := [
  (.aload_n 0, 0, 1, [], [], none),
  (.invokespecial 1, 1, 3, [0, 323], [], none),
  (.iload_n 1, 4, 1, [], [], none),
  (.ifCond .le 14, 5, 3, [9], [], none),
  (.aload_n 0, 8, 1, [], [], none),
  (.iload_n 1, 9, 1, [], [], none),
  (.anewarray 7, 10, 3, [7], [], none),
  (.putfield 9, 13, 3, [7, 0, 1, 20], [], none),
  (.goto 44, 16, 3, [27], [], none),
  (.iload_n 1, 19, 1, [], [], none),
  (.ifCond .ne 13, 20, 3, [15], [], none),
  (.aload_n 0, 23, 1, [], [], none),
  (.getstatic 15, 24, 3, [], [], none),
  (.putfield 9, 27, 3, [7, 0, 1, 20], [], none),
  (.goto 30, 30, 3, [27], [], none),
  (.new 18, 33, 3, [], [], none),
  (.dup, 36, 1, [], [], none),
  (.new 20, 37, 3, [], [], none),
  (.dup, 40, 1, [], [], none),
  (.invokespecial 22, 41, 3, [], [], none),
  (.ldc 23, 44, 2, [], [], none),
  (.invokevirtual 25, 46, 3, [], [], none),
  (.iload_n 1, 49, 1, [], [], none),
  (.invokevirtual 29, 50, 3, [], [], none),
  (.invokevirtual 32, 53, 3, [], [], none),
  (.invokespecial 36, 56, 3, [], [], none),
  (.athrow, 59, 1, [], [], none),
  (.return_, 60, 1, [], [], none)]
theorem aJ2_init : AllE (EntOK RJ2 (none) cJ2_init) tJ2_init := (AllE_c ⟨dJ2_init_0, trivial, rfl⟩ (AllE_c ⟨dJ2_init_1, Or.inl ⟨_, _, _, rfl, q238, q180, q236, q237, rfl, ⟨by decide +kernel, by decide +kernel, by decide +kernel⟩, by decide⟩, rfl⟩ (AllE_c ⟨dJ2_init_4, trivial, rfl⟩ (AllE_c ⟨dJ2_init_5, trivial, rfl⟩ (AllE_c ⟨dJ2_init_8, trivial, rfl⟩ (AllE_c ⟨dJ2_init_9, trivial, rfl⟩ (AllE_c ⟨dJ2_init_10, q243, rfl⟩ (AllE_c ⟨dJ2_init_13, ⟨rpJ2_9_20, trivial⟩, rfl⟩ (AllE_c ⟨dJ2_init_16, trivial, rfl⟩ (AllE_c ⟨dJ2_init_19, trivial, rfl⟩ (AllE_c ⟨dJ2_init_20, trivial, rfl⟩ (AllE_c ⟨dJ2_init_23, trivial, rfl⟩ (AllE_c ⟨dJ2_init_24, trivial, rfl⟩ (AllE_c ⟨dJ2_init_27, ⟨rpJ2_9_20, trivial⟩, rfl⟩ (AllE_c ⟨dJ2_init_30, trivial, rfl⟩ (AllE_c ⟨dJ2_init_33, trivial, rfl⟩ (AllE_c ⟨dJ2_init_36, trivial, rfl⟩ (AllE_c ⟨dJ2_init_37, trivial, rfl⟩ (AllE_c ⟨dJ2_init_40, trivial, rfl⟩ (AllE_c ⟨dJ2_init_41, trivial, rfl⟩ (AllE_c ⟨dJ2_init_44, trivial, rfl⟩ (AllE_c ⟨dJ2_init_46, trivial, rfl⟩ (AllE_c ⟨dJ2_init_49, trivial, rfl⟩ (AllE_c ⟨dJ2_init_50, trivial, rfl⟩ (AllE_c ⟨dJ2_init_53, trivial, rfl⟩ (AllE_c ⟨dJ2_init_56, trivial, rfl⟩ (AllE_c ⟨dJ2_init_59, trivial, rfl⟩ (AllE_c ⟨dJ2_init_60, rfl, rfl⟩ trivial))))))))))))))))))))))))))))
theorem okJ2_init : TabOK RJ2 (none) cJ2_init tJ2_init := ⟨aJ2_init, by decide +kernel⟩
theorem rgJ2_48_20 : FLg RJ2 48 20 2 5 := ⟨_, _, _, _, cf_20, by decide, rfl, Or.inl q248⟩
def tJ2_size : List Ent := [
  (.aload_n 0, 0, 1, [], [], none),
  (.getfield 48, 1, 3, [5, 2, 20], [], none),
  (.ireturn, 4, 1, [5], [], none)]
theorem aJ2_size : AllE (EntOK RJ2 (Option.some Jvm.ClassFile.FieldType.int) cJ2_size) tJ2_size := (AllE_c ⟨dJ2_size_0, trivial, rfl⟩ (AllE_c ⟨dJ2_size_1, ⟨rgJ2_48_20, trivial⟩, rfl⟩ (AllE_c ⟨dJ2_size_4, rfl, rfl⟩ trivial)))
theorem okJ2_size : TabOK RJ2 (Option.some Jvm.ClassFile.FieldType.int) cJ2_size tJ2_size := ⟨aJ2_size, by decide +kernel⟩
def tJ2_get : List Ent := [
  (.iload_n 1, 0, 1, [], [], none),
  (.aload_n 0, 1, 1, [], [], none),
  (.getfield 48, 2, 3, [5, 2, 20], [], none),
  (.invokestatic 118, 5, 3, [2, 333], [], none),
  (.pop, 8, 1, [], [], none),
  (.aload_n 0, 9, 1, [], [], none),
  (.iload_n 1, 10, 1, [], [], none),
  (.invokevirtual 123, 11, 3, [1], [(20, 303)], none),
  (.areturn, 14, 1, [], [], none)]
theorem aJ2_get : AllE (EntOK RJ2 (Option.some (Jvm.ClassFile.FieldType.object "java/lang/Object")) cJ2_get) tJ2_get := (AllE_c ⟨dJ2_get_0, trivial, rfl⟩ (AllE_c ⟨dJ2_get_1, trivial, rfl⟩ (AllE_c ⟨dJ2_get_2, ⟨rgJ2_48_20, trivial⟩, rfl⟩ (AllE_c ⟨dJ2_get_5, Or.inl ⟨_, _, _, _, rfl, lw_S q798 q799 q196 q800, ⟨by decide +kernel, by decide +kernel, by decide +kernel⟩, by decide⟩, rfl⟩ (AllE_c ⟨dJ2_get_8, trivial, rfl⟩ (AllE_c ⟨dJ2_get_9, trivial, rfl⟩ (AllE_c ⟨dJ2_get_10, trivial, rfl⟩ (AllE_c ⟨dJ2_get_11, ⟨Or.inl ⟨_, _, _, _, _, _, _, rfl, rfl, lw_V q804 q805 q806 q181 q807, rfl, ⟨by decide +kernel, by decide +kernel, by decide +kernel⟩, by decide⟩, trivial⟩, rfl⟩ (AllE_c ⟨dJ2_get_14, Or.inl ⟨_, rfl⟩, rfl⟩ trivial)))))))))
theorem okJ2_get : TabOK RJ2 (Option.some (Jvm.ClassFile.FieldType.object "java/lang/Object")) cJ2_get tJ2_get := ⟨aJ2_get, by decide +kernel⟩
theorem rgJ2_9_20 : FLg RJ2 9 20 1 7 := ⟨_, _, _, _, cf_20, by decide, rfl, Or.inl q247⟩
def tJ2_elementData : List Ent := [
  (.aload_n 0, 0, 1, [], [], none),
  (.getfield 9, 1, 3, [7, 1, 20], [], none),
  (.iload_n 1, 4, 1, [], [], none),
  (.aaload, 5, 1, [], [], none),
  (.areturn, 6, 1, [], [], none)]
theorem aJ2_elementData : AllE (EntOK RJ2 (Option.some (Jvm.ClassFile.FieldType.object "java/lang/Object")) cJ2_elementData) tJ2_elementData := (AllE_c ⟨dJ2_elementData_0, trivial, rfl⟩ (AllE_c ⟨dJ2_elementData_1, ⟨rgJ2_9_20, trivial⟩, rfl⟩ (AllE_c ⟨dJ2_elementData_4, trivial, rfl⟩ (AllE_c ⟨dJ2_elementData_5, trivial, rfl⟩ (AllE_c ⟨dJ2_elementData_6, Or.inl ⟨_, rfl⟩, rfl⟩ trivial)))))
theorem okJ2_elementData : TabOK RJ2 (Option.some (Jvm.ClassFile.FieldType.object "java/lang/Object")) cJ2_elementData tJ2_elementData := ⟨aJ2_elementData, by decide +kernel⟩
theorem rgJ2_63_20 : FLg RJ2 63 20 0 5 := ⟨_, _, _, _, cf_20, by decide, rfl, Or.inr (Or.inr ⟨_, q250, q251⟩)⟩
theorem rpJ2_63_20 : FL RJ2 63 20 0 5 false := ⟨_, _, _, _, cf_20, by decide, rfl, rfl, Or.inr (Or.inr ⟨_, q250, q251⟩), fun h => by cases h⟩
def tJ2_add : List Ent := [
  (.aload_n 0, 0, 1, [], [], none),
  (.dup, 1, 1, [], [], none),
  (.getfield 63, 2, 3, [5, 0, 20], [], none),
  (.iconst 1, 5, 1, [0, 1], [], none),
  (.iadd, 6, 1, [], [], none),
  (.putfield 63, 7, 3, [5, 0, 0, 20], [], none),
  (.aload_n 0, 10, 1, [], [], none),
  (.aload_n 1, 11, 1, [], [], none),
  (.aload_n 0, 12, 1, [], [], none),
  (.getfield 9, 13, 3, [7, 1, 20], [], none),
  (.aload_n 0, 16, 1, [], [], none),
  (.getfield 48, 17, 3, [5, 2, 20], [], none),
  (.invokevirtual 131, 20, 3, [3], [(20, 305)], none),
  (.iconst 1, 23, 1, [0, 1], [], none),
  (.ireturn, 24, 1, [1], [], none)]
theorem aJ2_add : AllE (EntOK RJ2 (Option.some Jvm.ClassFile.FieldType.boolean) cJ2_add) tJ2_add := (AllE_c ⟨dJ2_add_0, trivial, rfl⟩ (AllE_c ⟨dJ2_add_1, trivial, rfl⟩ (AllE_c ⟨dJ2_add_2, ⟨rgJ2_63_20, trivial⟩, rfl⟩ (AllE_c ⟨dJ2_add_5, trivial, rfl⟩ (AllE_c ⟨dJ2_add_6, trivial, rfl⟩ (AllE_c ⟨dJ2_add_7, ⟨rpJ2_63_20, trivial⟩, rfl⟩ (AllE_c ⟨dJ2_add_10, trivial, rfl⟩ (AllE_c ⟨dJ2_add_11, trivial, rfl⟩ (AllE_c ⟨dJ2_add_12, trivial, rfl⟩ (AllE_c ⟨dJ2_add_13, ⟨rgJ2_9_20, trivial⟩, rfl⟩ (AllE_c ⟨dJ2_add_16, trivial, rfl⟩ (AllE_c ⟨dJ2_add_17, ⟨rgJ2_48_20, trivial⟩, rfl⟩ (AllE_c ⟨dJ2_add_20, ⟨Or.inl ⟨_, _, _, _, _, _, _, rfl, rfl, lw_V q827 q829 qs13 q181 q830, rfl, ⟨by decide +kernel, by decide +kernel, by decide +kernel⟩, by decide⟩, trivial⟩, rfl⟩ (AllE_c ⟨dJ2_add_23, trivial, rfl⟩ (AllE_c ⟨dJ2_add_24, rfl, rfl⟩ trivial)))))))))))))))
theorem okJ2_add : TabOK RJ2 (Option.some Jvm.ClassFile.FieldType.boolean) cJ2_add tJ2_add := ⟨aJ2_add, by decide +kernel⟩
theorem rpJ2_48_20 : FL RJ2 48 20 2 5 false := ⟨_, _, _, _, cf_20, by decide, rfl, rfl, Or.inl q248, fun h => by cases h⟩
def tJ2_add_2 : List Ent := [
  (.iload_n 3, 0, 1, [], [], none),
  (.aload_n 2, 1, 1, [], [], none),
  (.arraylength, 2, 1, [], [], none),
  (.if_icmp .ne 8, 3, 3, [7], [], none),
  (.aload_n 0, 6, 1, [], [], none),
  (.invokevirtual 129, 7, 3, [0], [(20, 306)], none),
  (.astore_n 2, 10, 1, [], [], none),
  (.aload_n 2, 11, 1, [], [], none),
  (.iload_n 3, 12, 1, [], [], none),
  (.aload_n 1, 13, 1, [], [], none),
  (.aastore, 14, 1, [], [], none),
  (.aload_n 0, 15, 1, [], [], none),
  (.iload_n 3, 16, 1, [], [], none),
  (.iconst 1, 17, 1, [0, 1], [], none),
  (.iadd, 18, 1, [], [], none),
  (.putfield 48, 19, 3, [5, 0, 2, 20], [], none),
  (.return_, 22, 1, [], [], none)]
theorem aJ2_add_2 : AllE (EntOK RJ2 (none) cJ2_add_2) tJ2_add_2 := (AllE_c ⟨dJ2_add_2_0, trivial, rfl⟩ (AllE_c ⟨dJ2_add_2_1, trivial, rfl⟩ (AllE_c ⟨dJ2_add_2_2, trivial, rfl⟩ (AllE_c ⟨dJ2_add_2_3, trivial, rfl⟩ (AllE_c ⟨dJ2_add_2_6, trivial, rfl⟩ (AllE_c ⟨dJ2_add_2_7, ⟨Or.inl ⟨_, _, _, _, _, _, _, rfl, rfl, lw_V q831 q833 qs14 q181 q834, rfl, ⟨by decide +kernel, by decide +kernel, by decide +kernel⟩, by decide⟩, trivial⟩, rfl⟩ (AllE_c ⟨dJ2_add_2_10, trivial, rfl⟩ (AllE_c ⟨dJ2_add_2_11, trivial, rfl⟩ (AllE_c ⟨dJ2_add_2_12, trivial, rfl⟩ (AllE_c ⟨dJ2_add_2_13, trivial, rfl⟩ (AllE_c ⟨dJ2_add_2_14, trivial, rfl⟩ (AllE_c ⟨dJ2_add_2_15, trivial, rfl⟩ (AllE_c ⟨dJ2_add_2_16, trivial, rfl⟩ (AllE_c ⟨dJ2_add_2_17, trivial, rfl⟩ (AllE_c ⟨dJ2_add_2_18, trivial, rfl⟩ (AllE_c ⟨dJ2_add_2_19, ⟨rpJ2_48_20, trivial⟩, rfl⟩ (AllE_c ⟨dJ2_add_2_22, rfl, rfl⟩ trivial)))))))))))))))))
theorem okJ2_add_2 : TabOK RJ2 (none) cJ2_add_2 tJ2_add_2 := ⟨aJ2_add_2, by decide +kernel⟩
def tJ2_grow : List Ent := [
  (.aload_n 0, 0, 1, [], [], none),
  (.aload_n 0, 1, 1, [], [], none),
  (.getfield 48, 2, 3, [5, 2, 20], [], none),
  (.iconst 1, 5, 1, [0, 1], [], none),
  (.iadd, 6, 1, [], [], none),
  (.invokevirtual 69, 7, 3, [1], [(20, 307)], none),
  (.areturn, 10, 1, [], [], none)]
theorem aJ2_grow : AllE (EntOK RJ2 (Option.some (Jvm.ClassFile.FieldType.array (Jvm.ClassFile.FieldType.object "java/lang/Object"))) cJ2_grow) tJ2_grow := (AllE_c ⟨dJ2_grow_0, trivial, rfl⟩ (AllE_c ⟨dJ2_grow_1, trivial, rfl⟩ (AllE_c ⟨dJ2_grow_2, ⟨rgJ2_48_20, trivial⟩, rfl⟩ (AllE_c ⟨dJ2_grow_5, trivial, rfl⟩ (AllE_c ⟨dJ2_grow_6, trivial, rfl⟩ (AllE_c ⟨dJ2_grow_7, ⟨Or.inl ⟨_, _, _, _, _, _, _, rfl, rfl, lw_V q835 q837 qs15 q181 q838, rfl, ⟨by decide +kernel, by decide +kernel, by decide +kernel⟩, by decide⟩, trivial⟩, rfl⟩ (AllE_c ⟨dJ2_grow_10, Or.inr ⟨_, rfl⟩, rfl⟩ trivial)))))))
theorem okJ2_grow : TabOK RJ2 (Option.some (Jvm.ClassFile.FieldType.array (Jvm.ClassFile.FieldType.object "java/lang/Object"))) cJ2_grow tJ2_grow := ⟨aJ2_grow, by decide +kernel⟩
def tJ2_grow_2 : List Ent := [
  (.aload_n 0, 0, 1, [], [], none),
  (.getfield 9, 1, 3, [7, 1, 20], [], none),
  (.arraylength, 4, 1, [], [], none),
  (.istore_n 2, 5, 1, [], [], none),
  (.iload_n 2, 6, 1, [], [], none),
  (.ifCond .gt 13, 7, 3, [10], [], none),
  (.aload_n 0, 10, 1, [], [], none),
  (.getfield 9, 11, 3, [7, 1, 20], [], none),
  (.getstatic 39, 14, 3, [], [], none),
  (.if_acmp .eq 28, 17, 3, [27], [], none),
  (.iload_n 2, 20, 1, [], [], none),
  (.iload_n 1, 21, 1, [], [], none),
  (.iload_n 2, 22, 1, [], [], none),
  (.isub, 23, 1, [], [], none),
  (.iload_n 2, 24, 1, [], [], none),
  (.iconst 1, 25, 1, [0, 1], [], none),
  (.ishr, 26, 1, [], [], none),
  (.invokestatic 73, 27, 3, [3, 331], [], none),
  (.istore_n 3, 30, 1, [], [], none),
  (.aload_n 0, 31, 1, [], [], none),
  (.aload_n 0, 32, 1, [], [], none),
  (.getfield 9, 33, 3, [7, 1, 20], [], none),
  (.iload_n 3, 36, 1, [], [], none),
  (.invokestatic 66, 37, 3, [2, 340], [], none),
  (.dup_x1, 40, 1, [], [], none),
  (.putfield 9, 41, 3, [7, 0, 1, 20], [], none),
  (.areturn, 44, 1, [], [], none),
  (.aload_n 0, 45, 1, [], [], none),
  (.bipush 10, 46, 2, [0, 10], [], none),
  (.iload_n 1, 48, 1, [], [], none),
  (.invokestatic 79, 49, 3, [2, 334], [], none),
  (.anewarray 7, 52, 3, [7], [], none),
  (.dup_x1, 55, 1, [], [], none),
  (.putfield 9, 56, 3, [7, 0, 1, 20], [], none),
  (.areturn, 59, 1, [], [], none)]
theorem aJ2_grow_2 : AllE (EntOK RJ2 (Option.some (Jvm.ClassFile.FieldType.array (Jvm.ClassFile.FieldType.object "java/lang/Object"))) cJ2_grow_2) tJ2_grow_2 := (AllE_c ⟨dJ2_grow_2_0, trivial, rfl⟩ (AllE_c ⟨dJ2_grow_2_1, ⟨rgJ2_9_20, trivial⟩, rfl⟩ (AllE_c ⟨dJ2_grow_2_4, trivial, rfl⟩ (AllE_c ⟨dJ2_grow_2_5, trivial, rfl⟩ (AllE_c ⟨dJ2_grow_2_6, trivial, rfl⟩ (AllE_c ⟨dJ2_grow_2_7, trivial, rfl⟩ (AllE_c ⟨dJ2_grow_2_10, trivial, rfl⟩ (AllE_c ⟨dJ2_grow_2_11, ⟨rgJ2_9_20, trivial⟩, rfl⟩ (AllE_c ⟨dJ2_grow_2_14, trivial, rfl⟩ (AllE_c ⟨dJ2_grow_2_17, trivial, rfl⟩ (AllE_c ⟨dJ2_grow_2_20, trivial, rfl⟩ (AllE_c ⟨dJ2_grow_2_21, trivial, rfl⟩ (AllE_c ⟨dJ2_grow_2_22, trivial, rfl⟩ (AllE_c ⟨dJ2_grow_2_23, trivial, rfl⟩ (AllE_c ⟨dJ2_grow_2_24, trivial, rfl⟩ (AllE_c ⟨dJ2_grow_2_25, trivial, rfl⟩ (AllE_c ⟨dJ2_grow_2_26, trivial, rfl⟩ (AllE_c ⟨dJ2_grow_2_27, Or.inl ⟨_, _, _, _, rfl, lw_S q841 q842 q194 q843, ⟨by decide +kernel, by decide +kernel, by decide +kernel⟩, by decide⟩, rfl⟩ (AllE_c ⟨dJ2_grow_2_30, trivial, rfl⟩ (AllE_c ⟨dJ2_grow_2_31, trivial, rfl⟩ (AllE_c ⟨dJ2_grow_2_32, trivial, rfl⟩ (AllE_c ⟨dJ2_grow_2_33, ⟨rgJ2_9_20, trivial⟩, rfl⟩ (AllE_c ⟨dJ2_grow_2_36, trivial, rfl⟩ (AllE_c ⟨dJ2_grow_2_37, Or.inl ⟨_, _, _, _, rfl, lw_S q851 q852 q198 q853, ⟨by decide +kernel, by decide +kernel, by decide +kernel⟩, by decide⟩, rfl⟩ (AllE_c ⟨dJ2_grow_2_40, trivial, rfl⟩ (AllE_c ⟨dJ2_grow_2_41, ⟨rpJ2_9_20, trivial⟩, rfl⟩ (AllE_c ⟨dJ2_grow_2_44, Or.inr ⟨_, rfl⟩, rfl⟩ (AllE_c ⟨dJ2_grow_2_45, trivial, rfl⟩ (AllE_c ⟨dJ2_grow_2_46, trivial, rfl⟩ (AllE_c ⟨dJ2_grow_2_48, trivial, rfl⟩ (AllE_c ⟨dJ2_grow_2_49, Or.inl ⟨_, _, _, _, rfl, lw_S q893 q845 q197 q846, ⟨by decide +kernel, by decide +kernel, by decide +kernel⟩, by decide⟩, rfl⟩ (AllE_c ⟨dJ2_grow_2_52, q243, rfl⟩ (AllE_c ⟨dJ2_grow_2_55, trivial, rfl⟩ (AllE_c ⟨dJ2_grow_2_56, ⟨rpJ2_9_20, trivial⟩, rfl⟩ (AllE_c ⟨dJ2_grow_2_59, Or.inr ⟨_, rfl⟩, rfl⟩ trivial)))))))))))))))))))))))))))))))))))
theorem okJ2_grow_2 : TabOK RJ2 (Option.some (Jvm.ClassFile.FieldType.array (Jvm.ClassFile.FieldType.object "java/lang/Object"))) cJ2_grow_2 tJ2_grow_2 := ⟨aJ2_grow_2, by decide +kernel⟩
def tJ15_init : List Ent := [
  (.aload_n 0, 0, 1, [], [], none),
  (.bipush 16, 1, 2, [0, 16], [], none),
  (.invokespecial 1, 3, 3, [1, 343], [], none),
  (.return_, 6, 1, [], [], none)]
theorem aJ15_init : AllE (EntOK RJ15 (none) cJ15_init) tJ15_init := (AllE_c ⟨dJ15_init_0, trivial, rfl⟩ (AllE_c ⟨dJ15_init_1, trivial, rfl⟩ (AllE_c ⟨dJ15_init_3, Or.inl ⟨_, _, _, rfl, q951, q203, q949, q950, rfl, ⟨by decide +kernel, by decide +kernel, by decide +kernel⟩, by decide⟩, rfl⟩ (AllE_c ⟨dJ15_init_6, rfl, rfl⟩ trivial))))
theorem okJ15_init : TabOK RJ15 (none) cJ15_init tJ15_init := ⟨aJ15_init, by decide +kernel⟩
def tJ15_append : List Ent := [
  (.aload_n 0, 0, 1, [], [], none),
  (.iload_n 1, 1, 1, [], [], none),
  (.invokespecial 50, 2, 3, [1, 344], [(21, 344)], none),
  (.pop, 5, 1, [], [], none),
  (.aload_n 0, 6, 1, [], [], none),
  (.areturn, 7, 1, [], [], none)]
theorem aJ15_append : AllE (EntOK RJ15 (Option.some (Jvm.ClassFile.FieldType.object "java/lang/StringBuilder")) cJ15_append) tJ15_append := (AllE_c ⟨dJ15_append_0, trivial, rfl⟩ (AllE_c ⟨dJ15_append_1, trivial, rfl⟩ (AllE_c ⟨dJ15_append_2, Or.inr (Or.inr ⟨_, _, _, _, rfl, lw_five q1064 q2637 q966 q1065 q203 (lw_meth q1066), by decide, by decide +kernel, by decide, rfl⟩), rfl⟩ (AllE_c ⟨dJ15_append_5, trivial, rfl⟩ (AllE_c ⟨dJ15_append_6, trivial, rfl⟩ (AllE_c ⟨dJ15_append_7, Or.inl ⟨_, rfl⟩, rfl⟩ trivial))))))
theorem okJ15_append : TabOK RJ15 (Option.some (Jvm.ClassFile.FieldType.object "java/lang/StringBuilder")) cJ15_append tJ15_append := ⟨aJ15_append, by decide +kernel⟩
def tJ15_charAt : List Ent := [
  (.aload_n 0, 0, 1, [], [], none),
  (.iload_n 1, 1, 1, [], [], none),
  (.invokespecial 329, 2, 3, [1, 349], [(21, 349)], none),
  (.ireturn, 5, 1, [3], [], none)]
theorem aJ15_charAt : AllE (EntOK RJ15 (Option.some Jvm.ClassFile.FieldType.char) cJ15_charAt) tJ15_charAt := (AllE_c ⟨dJ15_charAt_0, trivial, rfl⟩ (AllE_c ⟨dJ15_charAt_1, trivial, rfl⟩ (AllE_c ⟨dJ15_charAt_2, Or.inr (Or.inr ⟨_, _, _, _, rfl, lw_five q1283 q2641 q966 q1284 q203 (lw_meth q1285), by decide, by decide +kernel, by decide, rfl⟩), rfl⟩ (AllE_c ⟨dJ15_charAt_5, rfl, rfl⟩ trivial))))
theorem okJ15_charAt : TabOK RJ15 (Option.some Jvm.ClassFile.FieldType.char) cJ15_charAt tJ15_charAt := ⟨aJ15_charAt, by decide +kernel⟩
def tJ6_valueOf : List Ent := [
  (.new 10, 0, 3, [22, 4], [], none),
  (.dup, 3, 1, [], [], none),
  (.aload_n 0, 4, 1, [], [], none),
  (.invokespecial 1008, 5, 3, [1, 312], [], none),
  (.areturn, 8, 1, [], [], none)]
theorem aJ6_valueOf : AllE (EntOK RJ6 (Option.some (Jvm.ClassFile.FieldType.object "java/lang/String")) cJ6_valueOf) tJ6_valueOf := (AllE_c ⟨dJ6_valueOf_0, ⟨_, _, _, cf_22, q607, q608, q190⟩, rfl⟩ (AllE_c ⟨dJ6_valueOf_3, trivial, rfl⟩ (AllE_c ⟨dJ6_valueOf_4, trivial, rfl⟩ (AllE_c ⟨dJ6_valueOf_5, Or.inl ⟨_, _, _, rfl, q611, q190, q609, q610, rfl, ⟨by decide +kernel, by decide +kernel, by decide +kernel⟩, by decide⟩, rfl⟩ (AllE_c ⟨dJ6_valueOf_8, Or.inl ⟨_, rfl⟩, rfl⟩ trivial)))))
theorem okJ6_valueOf : TabOK RJ6 (Option.some (Jvm.ClassFile.FieldType.object "java/lang/String")) cJ6_valueOf tJ6_valueOf := ⟨aJ6_valueOf, by decide +kernel⟩
def tJ6_init : List Ent := [
  (.aload_n 0, 0, 1, [], [], none),
  (.aload_n 1, 1, 1, [], [], none),
  (.iconst 0, 2, 1, [0, 0], [], none),
  (.aload_n 1, 3, 1, [], [], none),
  (.arraylength, 4, 1, [], [], none),
  (.aconst_null, 5, 1, [], [], none),
  (.invokespecial 27, 6, 3, [4, 313], [], none),
  (.return_, 9, 1, [], [], none)]
theorem aJ6_init : AllE (EntOK RJ6 (none) cJ6_init) tJ6_init := (AllE_c ⟨dJ6_init_0, trivial, rfl⟩ (AllE_c ⟨dJ6_init_1, trivial, rfl⟩ (AllE_c ⟨dJ6_init_2, trivial, rfl⟩ (AllE_c ⟨dJ6_init_3, trivial, rfl⟩ (AllE_c ⟨dJ6_init_4, trivial, rfl⟩ (AllE_c ⟨dJ6_init_5, trivial, rfl⟩ (AllE_c ⟨dJ6_init_6, Or.inl ⟨_, _, _, rfl, q614, q190, q612, q613, rfl, ⟨by decide +kernel, by decide +kernel, by decide +kernel⟩, by decide⟩, rfl⟩ (AllE_c ⟨dJ6_init_9, rfl, rfl⟩ trivial))))))))
theorem okJ6_init : TabOK RJ6 (none) cJ6_init tJ6_init := ⟨aJ6_init, by decide +kernel⟩
theorem rgJ6_9_22 : FLg RJ6 9 22 0 7 := ⟨_, _, _, _, cf_22, by decide, rfl, Or.inl q668⟩
theorem rpJ6_9_22 : FL RJ6 9 22 0 7 true := ⟨_, _, _, _, cf_22, by decide, rfl, rfl, Or.inl q668, fun _ => rfl⟩
theorem rgJ6_15_22 : FLg RJ6 15 22 1 2 := ⟨_, _, _, _, cf_22, by decide, rfl, Or.inl q669⟩
theorem rpJ6_15_22 : FL RJ6 15 22 1 2 true := ⟨_, _, _, _, cf_22, by decide, rfl, rfl, Or.inl q669, fun _ => rfl⟩
def tJ6_init_2 : List Ent := [
  (.aload_n 0, 0, 1, [], [], none),
  (.invokespecial 1, 1, 3, [99], [], none),
  (.iload_n 3, 4, 1, [], [], none),
  (.ifCond .ne 22, 5, 3, [13], [], none),
  (.aload_n 0, 8, 1, [], [], none),
  (.ldc 7, 9, 2, [1, 5], [], none),
  (.getfield 9, 11, 3, [7, 0, 22], [], none),
  (.putfield 9, 14, 3, [7, 1, 0, 22], [], none),
  (.aload_n 0, 17, 1, [], [], none),
  (.ldc 7, 18, 2, [1, 5], [], none),
  (.getfield 15, 20, 3, [2, 1, 22], [], none),
  (.putfield 15, 23, 3, [2, 1, 1, 22], [], none),
  (.return_, 26, 1, [], [], none),
  (.getstatic 38, 27, 3, [0, 1], [], none),
  (.ifCond .eq 28, 30, 3, [29], [], none),
  (.aload_n 1, 33, 1, [], [], none),
  (.iload_n 2, 34, 1, [], [], none),
  (.iload_n 3, 35, 1, [], [], none),
  (.invokestatic 177, 36, 3, [3, 357], [], none),
  (.astore 5, 39, 2, [], [], none),
  (.aload_n 0, 41, 1, [], [], none),
  (.aload 5, 42, 2, [], [], none),
  (.iload_n 3, 44, 1, [], [], none),
  (.invokestatic 47, 45, 3, [2, 367], [], none),
  (.putfield 15, 48, 3, [2, 1, 1, 22], [], none),
  (.aload_n 0, 51, 1, [], [], none),
  (.aload 5, 52, 2, [], [], none),
  (.putfield 9, 54, 3, [7, 1, 0, 22], [], none),
  (.return_, 57, 1, [], [], none),
  (.aload_n 0, 58, 1, [], [], none),
  (.iconst 1, 59, 1, [0, 1], [], none),
  (.putfield 15, 60, 3, [2, 1, 1, 22], [], none),
  (.aload_n 0, 63, 1, [], [], none),
  (.aload_n 1, 64, 1, [], [], none),
  (.iload_n 2, 65, 1, [], [], none),
  (.iload_n 3, 66, 1, [], [], none),
  (.invokestatic 180, 67, 3, [3, 359], [], none),
  (.putfield 9, 70, 3, [7, 1, 0, 22], [], none),
  (.return_, 73, 1, [], [], none)]
theorem aJ6_init_2 : AllE (EntOK RJ6 (none) cJ6_init_2) tJ6_init_2 := (AllE_c ⟨dJ6_init_2_0, trivial, rfl⟩ (AllE_c ⟨dJ6_init_2_1, ⟨q615, q223, q224⟩, rfl⟩ (AllE_c ⟨dJ6_init_2_4, trivial, rfl⟩ (AllE_c ⟨dJ6_init_2_5, trivial, rfl⟩ (AllE_c ⟨dJ6_init_2_8, trivial, rfl⟩ (AllE_c ⟨dJ6_init_2_9, ⟨_, strL_0⟩, rfl⟩ (AllE_c ⟨dJ6_init_2_11, ⟨rgJ6_9_22, trivial⟩, rfl⟩ (AllE_c ⟨dJ6_init_2_14, ⟨rpJ6_9_22, trivial⟩, rfl⟩ (AllE_c ⟨dJ6_init_2_17, trivial, rfl⟩ (AllE_c ⟨dJ6_init_2_18, ⟨_, strL_0⟩, rfl⟩ (AllE_c ⟨dJ6_init_2_20, ⟨rgJ6_15_22, trivial⟩, rfl⟩ (AllE_c ⟨dJ6_init_2_23, ⟨rpJ6_15_22, trivial⟩, rfl⟩ (AllE_c ⟨dJ6_init_2_26, rfl, rfl⟩ (AllE_c ⟨dJ6_init_2_27, ⟨_, _, _, statL_2, Or.inl q617⟩, rfl⟩ (AllE_c ⟨dJ6_init_2_30, trivial, rfl⟩ (AllE_c ⟨dJ6_init_2_33, trivial, rfl⟩ (AllE_c ⟨dJ6_init_2_34, trivial, rfl⟩ (AllE_c ⟨dJ6_init_2_35, trivial, rfl⟩ (AllE_c ⟨dJ6_init_2_36, Or.inl ⟨_, _, _, _, rfl, lw_S q619 q620 q191 q621, ⟨by decide +kernel, by decide +kernel, by decide +kernel⟩, by decide⟩, rfl⟩ (AllE_c ⟨dJ6_init_2_39, trivial, rfl⟩ (AllE_c ⟨dJ6_init_2_41, trivial, rfl⟩ (AllE_c ⟨dJ6_init_2_42, trivial, rfl⟩ (AllE_c ⟨dJ6_init_2_44, trivial, rfl⟩ (AllE_c ⟨dJ6_init_2_45, Or.inl ⟨_, _, _, _, rfl, lw_S q664 q665 q191 q666, ⟨by decide +kernel, by decide +kernel, by decide +kernel⟩, by decide⟩, rfl⟩ (AllE_c ⟨dJ6_init_2_48, ⟨rpJ6_15_22, trivial⟩, rfl⟩ (AllE_c ⟨dJ6_init_2_51, trivial, rfl⟩ (AllE_c ⟨dJ6_init_2_52, trivial, rfl⟩ (AllE_c ⟨dJ6_init_2_54, ⟨rpJ6_9_22, trivial⟩, rfl⟩ (AllE_c ⟨dJ6_init_2_57, rfl, rfl⟩ (AllE_c ⟨dJ6_init_2_58, trivial, rfl⟩ (AllE_c ⟨dJ6_init_2_59, trivial, rfl⟩ (AllE_c ⟨dJ6_init_2_60, ⟨rpJ6_15_22, trivial⟩, rfl⟩ (AllE_c ⟨dJ6_init_2_63, trivial, rfl⟩ (AllE_c ⟨dJ6_init_2_64, trivial, rfl⟩ (AllE_c ⟨dJ6_init_2_65, trivial, rfl⟩ (AllE_c ⟨dJ6_init_2_66, trivial, rfl⟩ (AllE_c ⟨dJ6_init_2_67, Or.inl ⟨_, _, _, _, rfl, lw_S q667 q626 q191 q627, ⟨by decide +kernel, by decide +kernel, by decide +kernel⟩, by decide⟩, rfl⟩ (AllE_c ⟨dJ6_init_2_70, ⟨rpJ6_9_22, trivial⟩, rfl⟩ (AllE_c ⟨dJ6_init_2_73, rfl, rfl⟩ trivial)))))))))))))))))))))))))))))))))))))))
theorem okJ6_init_2 : TabOK RJ6 (none) cJ6_init_2 tJ6_init_2 := ⟨aJ6_init_2, by decide +kernel⟩
def tJ6_checkBoundsOffCount : List Ent := [
  (.iload_n 0, 0, 1, [], [], none),
  (.iload_n 1, 1, 1, [], [], none),
  (.iload_n 2, 2, 1, [], [], none),
  (.getstatic 1053, 3, 3, [2, 2], [], none),
  (.invokestatic 1065, 6, 3, [4, 373], [], none),
  (.ireturn, 9, 1, [5], [], none)]
theorem aJ6_checkBoundsOffCount : AllE (EntOK RJ6 (Option.some Jvm.ClassFile.FieldType.int) cJ6_checkBoundsOffCount) tJ6_checkBoundsOffCount := (AllE_c ⟨dJ6_checkBoundsOffCount_0, trivial, rfl⟩ (AllE_c ⟨dJ6_checkBoundsOffCount_1, trivial, rfl⟩ (AllE_c ⟨dJ6_checkBoundsOffCount_2, trivial, rfl⟩ (AllE_c ⟨dJ6_checkBoundsOffCount_3, ⟨_, _, _, statL_4, Or.inl q659⟩, rfl⟩ (AllE_c ⟨dJ6_checkBoundsOffCount_6, Or.inl ⟨_, _, _, _, rfl, lw_S q661 q662 q192 q663, ⟨by decide +kernel, by decide +kernel, by decide +kernel⟩, by decide⟩, rfl⟩ (AllE_c ⟨dJ6_checkBoundsOffCount_9, rfl, rfl⟩ trivial))))))
theorem okJ6_checkBoundsOffCount : TabOK RJ6 (Option.some Jvm.ClassFile.FieldType.int) cJ6_checkBoundsOffCount tJ6_checkBoundsOffCount := ⟨aJ6_checkBoundsOffCount, by decide +kernel⟩
theorem rgJ6_19_22 : FLg RJ6 19 22 2 5 := ⟨_, _, _, _, cf_22, by decide, rfl, Or.inl q670⟩
theorem rgJ6_23_22 : FLg RJ6 23 22 3 1 := ⟨_, _, _, _, cf_22, by decide, rfl, Or.inl q671⟩
theorem rpJ6_23_22 : FL RJ6 23 22 3 1 false := ⟨_, _, _, _, cf_22, by decide, rfl, rfl, Or.inl q671, fun h => by cases h⟩
theorem rpJ6_19_22 : FL RJ6 19 22 2 5 false := ⟨_, _, _, _, cf_22, by decide, rfl, rfl, Or.inl q670, fun h => by cases h⟩
def tJ6_hashCode : List Ent := [
  (.aload_n 0, 0, 1, [], [], none),
  (.getfield 19, 1, 3, [5, 2, 22], [], none),
  (.istore_n 1, 4, 1, [], [], none),
  (.iload_n 1, 5, 1, [], [], none),
  (.ifCond .ne 52, 6, 3, [28], [], none),
  (.aload_n 0, 9, 1, [], [], none),
  (.getfield 23, 10, 3, [1, 3, 22], [], none),
  (.ifCond .ne 45, 13, 3, [28], [], none),
  (.aload_n 0, 16, 1, [], [], none),
  (.invokevirtual 492, 17, 3, [0], [(22, 316)], none),
  (.ifCond .eq 13, 20, 3, [15], [], none),
  (.aload_n 0, 23, 1, [], [], none),
  (.getfield 9, 24, 3, [7, 0, 22], [], none),
  (.invokestatic 628, 27, 3, [1, 375], [], none),
  (.goto 10, 30, 3, [18], [], none),
  (.aload_n 0, 33, 1, [], [], none),
  (.getfield 9, 34, 3, [7, 0, 22], [], none),
  (.invokestatic 632, 37, 3, [1, 368], [], none),
  (.istore_n 1, 40, 1, [], [], none),
  (.iload_n 1, 41, 1, [], [], none),
  (.ifCond .ne 11, 42, 3, [25], [], none),
  (.aload_n 0, 45, 1, [], [], none),
  (.iconst 1, 46, 1, [0, 1], [], none),
  (.putfield 23, 47, 3, [1, 0, 3, 22], [], none),
  (.goto 8, 50, 3, [28], [], none),
  (.aload_n 0, 53, 1, [], [], none),
  (.iload_n 1, 54, 1, [], [], none),
  (.putfield 19, 55, 3, [5, 0, 2, 22], [], none),
  (.iload_n 1, 58, 1, [], [], none),
  (.ireturn, 59, 1, [5], [], none)]
theorem aJ6_hashCode : AllE (EntOK RJ6 (Option.some Jvm.ClassFile.FieldType.int) cJ6_hashCode) tJ6_hashCode := (AllE_c ⟨dJ6_hashCode_0, trivial, rfl⟩ (AllE_c ⟨dJ6_hashCode_1, ⟨rgJ6_19_22, trivial⟩, rfl⟩ (AllE_c ⟨dJ6_hashCode_4, trivial, rfl⟩ (AllE_c ⟨dJ6_hashCode_5, trivial, rfl⟩ (AllE_c ⟨dJ6_hashCode_6, trivial, rfl⟩ (AllE_c ⟨dJ6_hashCode_9, trivial, rfl⟩ (AllE_c ⟨dJ6_hashCode_10, ⟨rgJ6_23_22, trivial⟩, rfl⟩ (AllE_c ⟨dJ6_hashCode_13, trivial, rfl⟩ (AllE_c ⟨dJ6_hashCode_16, trivial, rfl⟩ (AllE_c ⟨dJ6_hashCode_17, ⟨Or.inl ⟨_, _, _, _, _, _, _, rfl, rfl, lw_V q690 q691 q692 q190 q693, rfl, ⟨by decide +kernel, by decide +kernel, by decide +kernel⟩, by decide⟩, trivial⟩, rfl⟩ (AllE_c ⟨dJ6_hashCode_20, trivial, rfl⟩ (AllE_c ⟨dJ6_hashCode_23, trivial, rfl⟩ (AllE_c ⟨dJ6_hashCode_24, ⟨rgJ6_9_22, trivial⟩, rfl⟩ (AllE_c ⟨dJ6_hashCode_27, Or.inl ⟨_, _, _, _, rfl, lw_S q694 q695 q193 q696, ⟨by decide +kernel, by decide +kernel, by decide +kernel⟩, by decide⟩, rfl⟩ (AllE_c ⟨dJ6_hashCode_30, trivial, rfl⟩ (AllE_c ⟨dJ6_hashCode_33, trivial, rfl⟩ (AllE_c ⟨dJ6_hashCode_34, ⟨rgJ6_9_22, trivial⟩, rfl⟩ (AllE_c ⟨dJ6_hashCode_37, Or.inl ⟨_, _, _, _, rfl, lw_S q735 q736 q191 q737, ⟨by decide +kernel, by decide +kernel, by decide +kernel⟩, by decide⟩, rfl⟩ (AllE_c ⟨dJ6_hashCode_40, trivial, rfl⟩ (AllE_c ⟨dJ6_hashCode_41, trivial, rfl⟩ (AllE_c ⟨dJ6_hashCode_42, trivial, rfl⟩ (AllE_c ⟨dJ6_hashCode_45, trivial, rfl⟩ (AllE_c ⟨dJ6_hashCode_46, trivial, rfl⟩ (AllE_c ⟨dJ6_hashCode_47, ⟨rpJ6_23_22, trivial⟩, rfl⟩ (AllE_c ⟨dJ6_hashCode_50, trivial, rfl⟩ (AllE_c ⟨dJ6_hashCode_53, trivial, rfl⟩ (AllE_c ⟨dJ6_hashCode_54, trivial, rfl⟩ (AllE_c ⟨dJ6_hashCode_55, ⟨rpJ6_19_22, trivial⟩, rfl⟩ (AllE_c ⟨dJ6_hashCode_58, trivial, rfl⟩ (AllE_c ⟨dJ6_hashCode_59, rfl, rfl⟩ trivial))))))))))))))))))))))))))))))
theorem okJ6_hashCode : TabOK RJ6 (Option.some Jvm.ClassFile.FieldType.int) cJ6_hashCode tJ6_hashCode := ⟨aJ6_hashCode, by decide +kernel⟩
def tJ6_isLatin1 : List Ent := [
  (.getstatic 38, 0, 3, [0, 1], [], none),
  (.ifCond .eq 14, 3, 3, [7], [], none),
  (.aload_n 0, 6, 1, [], [], none),
  (.getfield 15, 7, 3, [2, 1, 22], [], none),
  (.ifCond .ne 7, 10, 3, [7], [], none),
  (.iconst 1, 13, 1, [0, 1], [], none),
  (.goto 4, 14, 3, [8], [], none),
  (.iconst 0, 17, 1, [0, 0], [], none),
  (.ireturn, 18, 1, [1], [], none)]
theorem aJ6_isLatin1 : AllE (EntOK RJ6 (Option.some Jvm.ClassFile.FieldType.boolean) cJ6_isLatin1) tJ6_isLatin1 := (AllE_c ⟨dJ6_isLatin1_0, ⟨_, _, _, statL_2, Or.inl q617⟩, rfl⟩ (AllE_c ⟨dJ6_isLatin1_3, trivial, rfl⟩ (AllE_c ⟨dJ6_isLatin1_6, trivial, rfl⟩ (AllE_c ⟨dJ6_isLatin1_7, ⟨rgJ6_15_22, trivial⟩, rfl⟩ (AllE_c ⟨dJ6_isLatin1_10, trivial, rfl⟩ (AllE_c ⟨dJ6_isLatin1_13, trivial, rfl⟩ (AllE_c ⟨dJ6_isLatin1_14, trivial, rfl⟩ (AllE_c ⟨dJ6_isLatin1_17, trivial, rfl⟩ (AllE_c ⟨dJ6_isLatin1_18, rfl, rfl⟩ trivial)))))))))
theorem okJ6_isLatin1 : TabOK RJ6 (Option.some Jvm.ClassFile.FieldType.boolean) cJ6_isLatin1 tJ6_isLatin1 := ⟨aJ6_isLatin1, by decide +kernel⟩
def tJ6_equals : List Ent := [
  (.aload_n 0, 0, 1, [], [], none),
  (.aload_n 1, 1, 1, [], [], none),
  (.if_acmp .ne 5, 2, 3, [5], [], none),
  (.iconst 1, 5, 1, [0, 1], [], none),
  (.ireturn, 6, 1, [1], [], none),
  (.aload_n 1, 7, 1, [], [], none),
  (.instanceof 10, 8, 3, [22], [], none),
  (.ifCond .eq 43, 11, 3, [26], [], none),
  (.aload_n 1, 14, 1, [], [], none),
  (.checkcast 10, 15, 3, [22], [], none),
  (.astore_n 2, 18, 1, [], [], none),
  (.getstatic 38, 19, 3, [0, 1], [], none),
  (.ifCond .eq 14, 22, 3, [18], [], none),
  (.aload_n 0, 25, 1, [], [], none),
  (.getfield 15, 26, 3, [2, 1, 22], [], none),
  (.aload_n 2, 29, 1, [], [], none),
  (.getfield 15, 30, 3, [2, 1, 22], [], none),
  (.if_icmp .ne 21, 33, 3, [26], [], none),
  (.aload_n 0, 36, 1, [], [], none),
  (.getfield 9, 37, 3, [7, 0, 22], [], none),
  (.aload_n 2, 40, 1, [], [], none),
  (.getfield 9, 41, 3, [7, 0, 22], [], none),
  (.invokestatic 541, 44, 3, [2, 376], [], none),
  (.ifCond .eq 7, 47, 3, [26], [], none),
  (.iconst 1, 50, 1, [0, 1], [], none),
  (.goto 4, 51, 3, [27], [], none),
  (.iconst 0, 54, 1, [0, 0], [], none),
  (.ireturn, 55, 1, [1], [], none)]
theorem aJ6_equals : AllE (EntOK RJ6 (Option.some Jvm.ClassFile.FieldType.boolean) cJ6_equals) tJ6_equals := (AllE_c ⟨dJ6_equals_0, trivial, rfl⟩ (AllE_c ⟨dJ6_equals_1, trivial, rfl⟩ (AllE_c ⟨dJ6_equals_2, trivial, rfl⟩ (AllE_c ⟨dJ6_equals_5, trivial, rfl⟩ (AllE_c ⟨dJ6_equals_6, rfl, rfl⟩ (AllE_c ⟨dJ6_equals_7, trivial, rfl⟩ (AllE_c ⟨dJ6_equals_8, Or.inr ⟨_, q607, ⟨Or.inl ⟨_, _, _, rfl, by decide, Or.inl rfl⟩, trivial⟩⟩, rfl⟩ (AllE_c ⟨dJ6_equals_11, trivial, rfl⟩ (AllE_c ⟨dJ6_equals_14, trivial, rfl⟩ (AllE_c ⟨dJ6_equals_15, Or.inr ⟨_, q607, ⟨Or.inl ⟨_, _, _, rfl, by decide, Or.inl rfl⟩, trivial⟩⟩, rfl⟩ (AllE_c ⟨dJ6_equals_18, trivial, rfl⟩ (AllE_c ⟨dJ6_equals_19, ⟨_, _, _, statL_2, Or.inl q617⟩, rfl⟩ (AllE_c ⟨dJ6_equals_22, trivial, rfl⟩ (AllE_c ⟨dJ6_equals_25, trivial, rfl⟩ (AllE_c ⟨dJ6_equals_26, ⟨rgJ6_15_22, trivial⟩, rfl⟩ (AllE_c ⟨dJ6_equals_29, trivial, rfl⟩ (AllE_c ⟨dJ6_equals_30, ⟨rgJ6_15_22, trivial⟩, rfl⟩ (AllE_c ⟨dJ6_equals_33, trivial, rfl⟩ (AllE_c ⟨dJ6_equals_36, trivial, rfl⟩ (AllE_c ⟨dJ6_equals_37, ⟨rgJ6_9_22, trivial⟩, rfl⟩ (AllE_c ⟨dJ6_equals_40, trivial, rfl⟩ (AllE_c ⟨dJ6_equals_41, ⟨rgJ6_9_22, trivial⟩, rfl⟩ (AllE_c ⟨dJ6_equals_44, Or.inl ⟨_, _, _, _, rfl, lw_S q744 q745 q193 q746, ⟨by decide +kernel, by decide +kernel, by decide +kernel⟩, by decide⟩, rfl⟩ (AllE_c ⟨dJ6_equals_47, trivial, rfl⟩ (AllE_c ⟨dJ6_equals_50, trivial, rfl⟩ (AllE_c ⟨dJ6_equals_51, trivial, rfl⟩ (AllE_c ⟨dJ6_equals_54, trivial, rfl⟩ (AllE_c ⟨dJ6_equals_55, rfl, rfl⟩ trivial))))))))))))))))))))))))))))
theorem okJ6_equals : TabOK RJ6 (Option.some Jvm.ClassFile.FieldType.boolean) cJ6_equals tJ6_equals := ⟨aJ6_equals, by decide +kernel⟩
def tJ6_length : List Ent := [
  (.aload_n 0, 0, 1, [], [], none),
  (.getfield 9, 1, 3, [7, 0, 22], [], none),
  (.arraylength, 4, 1, [], [], none),
  (.aload_n 0, 5, 1, [], [], none),
  (.invokevirtual 335, 6, 3, [0], [(22, 319)], none),
  (.ishr, 9, 1, [], [], none),
  (.ireturn, 10, 1, [5], [], none)]
theorem aJ6_length : AllE (EntOK RJ6 (Option.some Jvm.ClassFile.FieldType.int) cJ6_length) tJ6_length := (AllE_c ⟨dJ6_length_0, trivial, rfl⟩ (AllE_c ⟨dJ6_length_1, ⟨rgJ6_9_22, trivial⟩, rfl⟩ (AllE_c ⟨dJ6_length_4, trivial, rfl⟩ (AllE_c ⟨dJ6_length_5, trivial, rfl⟩ (AllE_c ⟨dJ6_length_6, ⟨Or.inl ⟨_, _, _, _, _, _, _, rfl, rfl, lw_V q780 q781 q782 q190 q783, rfl, ⟨by decide +kernel, by decide +kernel, by decide +kernel⟩, by decide⟩, trivial⟩, rfl⟩ (AllE_c ⟨dJ6_length_9, trivial, rfl⟩ (AllE_c ⟨dJ6_length_10, rfl, rfl⟩ trivial)))))))
theorem okJ6_length : TabOK RJ6 (Option.some Jvm.ClassFile.FieldType.int) cJ6_length tJ6_length := ⟨aJ6_length, by decide +kernel⟩
def tJ6_coder : List Ent := [
  (.getstatic 38, 0, 3, [0, 1], [], none),
  (.ifCond .eq 10, 3, 3, [5], [], none),
  (.aload_n 0, 6, 1, [], [], none),
  (.getfield 15, 7, 3, [2, 1, 22], [], none),
  (.goto 4, 10, 3, [6], [], none),
  (.iconst 1, 13, 1, [0, 1], [], none),
  (.ireturn, 14, 1, [2], [], none)]
theorem aJ6_coder : AllE (EntOK RJ6 (Option.some Jvm.ClassFile.FieldType.byte) cJ6_coder) tJ6_coder := (AllE_c ⟨dJ6_coder_0, ⟨_, _, _, statL_2, Or.inl q617⟩, rfl⟩ (AllE_c ⟨dJ6_coder_3, trivial, rfl⟩ (AllE_c ⟨dJ6_coder_6, trivial, rfl⟩ (AllE_c ⟨dJ6_coder_7, ⟨rgJ6_15_22, trivial⟩, rfl⟩ (AllE_c ⟨dJ6_coder_10, trivial, rfl⟩ (AllE_c ⟨dJ6_coder_13, trivial, rfl⟩ (AllE_c ⟨dJ6_coder_14, rfl, rfl⟩ trivial)))))))
theorem okJ6_coder : TabOK RJ6 (Option.some Jvm.ClassFile.FieldType.byte) cJ6_coder tJ6_coder := ⟨aJ6_coder, by decide +kernel⟩
def tJ6_checkIndex : List Ent := [
  (.iload_n 0, 0, 1, [], [], none),
  (.iload_n 1, 1, 1, [], [], none),
  (.getstatic 1053, 2, 3, [2, 2], [], none),
  (.invokestatic 1059, 5, 3, [3, 374], [], none),
  (.pop, 8, 1, [], [], none),
  (.return_, 9, 1, [], [], none)]
theorem aJ6_checkIndex : AllE (EntOK RJ6 (none) cJ6_checkIndex) tJ6_checkIndex := (AllE_c ⟨dJ6_checkIndex_0, trivial, rfl⟩ (AllE_c ⟨dJ6_checkIndex_1, trivial, rfl⟩ (AllE_c ⟨dJ6_checkIndex_2, ⟨_, _, _, statL_4, Or.inl q659⟩, rfl⟩ (AllE_c ⟨dJ6_checkIndex_5, Or.inl ⟨_, _, _, _, rfl, lw_S q1114 q802 q192 q803, ⟨by decide +kernel, by decide +kernel, by decide +kernel⟩, by decide⟩, rfl⟩ (AllE_c ⟨dJ6_checkIndex_8, trivial, rfl⟩ (AllE_c ⟨dJ6_checkIndex_9, rfl, rfl⟩ trivial))))))
theorem okJ6_checkIndex : TabOK RJ6 (none) cJ6_checkIndex tJ6_checkIndex := ⟨aJ6_checkIndex, by decide +kernel⟩
def tJ6_charAt : List Ent := [
  (.aload_n 0, 0, 1, [], [], none),
  (.invokevirtual 492, 1, 3, [0], [(22, 316)], none),
  (.ifCond .eq 12, 4, 3, [8], [], none),
  (.aload_n 0, 7, 1, [], [], none),
  (.getfield 9, 8, 3, [7, 0, 22], [], none),
  (.iload_n 1, 11, 1, [], [], none),
  (.invokestatic 495, 12, 3, [2, 379], [], none),
  (.ireturn, 15, 1, [3], [], none),
  (.aload_n 0, 16, 1, [], [], none),
  (.getfield 9, 17, 3, [7, 0, 22], [], none),
  (.iload_n 1, 20, 1, [], [], none),
  (.invokestatic 498, 21, 3, [2, 372], [], none),
  (.ireturn, 24, 1, [3], [], none)]
theorem aJ6_charAt : AllE (EntOK RJ6 (Option.some Jvm.ClassFile.FieldType.char) cJ6_charAt) tJ6_charAt := (AllE_c ⟨dJ6_charAt_0, trivial, rfl⟩ (AllE_c ⟨dJ6_charAt_1, ⟨Or.inl ⟨_, _, _, _, _, _, _, rfl, rfl, lw_V q690 q691 q692 q190 q693, rfl, ⟨by decide +kernel, by decide +kernel, by decide +kernel⟩, by decide⟩, trivial⟩, rfl⟩ (AllE_c ⟨dJ6_charAt_4, trivial, rfl⟩ (AllE_c ⟨dJ6_charAt_7, trivial, rfl⟩ (AllE_c ⟨dJ6_charAt_8, ⟨rgJ6_9_22, trivial⟩, rfl⟩ (AllE_c ⟨dJ6_charAt_11, trivial, rfl⟩ (AllE_c ⟨dJ6_charAt_12, Or.inl ⟨_, _, _, _, rfl, lw_S q1352 q1353 q193 q1354, ⟨by decide +kernel, by decide +kernel, by decide +kernel⟩, by decide⟩, rfl⟩ (AllE_c ⟨dJ6_charAt_15, rfl, rfl⟩ (AllE_c ⟨dJ6_charAt_16, trivial, rfl⟩ (AllE_c ⟨dJ6_charAt_17, ⟨rgJ6_9_22, trivial⟩, rfl⟩ (AllE_c ⟨dJ6_charAt_20, trivial, rfl⟩ (AllE_c ⟨dJ6_charAt_21, Or.inl ⟨_, _, _, _, rfl, lw_S q1356 q1357 q191 q1358, ⟨by decide +kernel, by decide +kernel, by decide +kernel⟩, by decide⟩, rfl⟩ (AllE_c ⟨dJ6_charAt_24, rfl, rfl⟩ trivial)))))))))))))
theorem okJ6_charAt : TabOK RJ6 (Option.some Jvm.ClassFile.FieldType.char) cJ6_charAt tJ6_charAt := ⟨aJ6_charAt, by decide +kernel⟩
def tJ0_init : List Ent := [
  (.aload_n 0, 0, 1, [], [], none),
  (.invokespecial 1, 1, 3, [99], [], none),
  (.return_, 4, 1, [], [], none)]
theorem aJ0_init : AllE (EntOK RJ0 (none) cJ0_init) tJ0_init := (AllE_c ⟨dJ0_init_0, trivial, rfl⟩ (AllE_c ⟨dJ0_init_1, ⟨q242, q223, q224⟩, rfl⟩ (AllE_c ⟨dJ0_init_4, rfl, rfl⟩ trivial)))
theorem okJ0_init : TabOK RJ0 (none) cJ0_init tJ0_init := ⟨aJ0_init, by decide +kernel⟩
theorem rpJ1_7_20 : FL RJ1 7 20 0 5 false := ⟨_, _, _, _, cf_20, by decide, rfl, rfl, Or.inl q249, fun h => by cases h⟩
def tJ1_init : List Ent := [
  (.aload_n 0, 0, 1, [], [], none),
  (.invokespecial 1, 1, 3, [0, 322], [], none),
  (.aload_n 0, 4, 1, [], [], none),
  (.iconst 0, 5, 1, [0, 0], [], none),
  (.putfield 7, 6, 3, [5, 0, 0, 20], [], none),
  (.return_, 9, 1, [], [], none)]
theorem aJ1_init : AllE (EntOK RJ1 (none) cJ1_init) tJ1_init := (AllE_c ⟨dJ1_init_0, trivial, rfl⟩ (AllE_c ⟨dJ1_init_1, Or.inl ⟨_, _, _, rfl, q241, q179, q239, q240, rfl, ⟨by decide +kernel, by decide +kernel, by decide +kernel⟩, by decide⟩, rfl⟩ (AllE_c ⟨dJ1_init_4, trivial, rfl⟩ (AllE_c ⟨dJ1_init_5, trivial, rfl⟩ (AllE_c ⟨dJ1_init_6, ⟨rpJ1_7_20, trivial⟩, rfl⟩ (AllE_c ⟨dJ1_init_9, rfl, rfl⟩ trivial))))))
theorem okJ1_init : TabOK RJ1 (none) cJ1_init tJ1_init := ⟨aJ1_init, by decide +kernel⟩
def tJ11_checkIndex : List Ent := [
  (.iload_n 0, 0, 1, [], [], none),
  (.iload_n 1, 1, 1, [], [], none),
  (.aconst_null, 2, 1, [], [], none),
  (.invokestatic 105, 3, 3, [3, 374], [], none),
  (.ireturn, 6, 1, [5], [], none)]
theorem aJ11_checkIndex : AllE (EntOK RJ11 (Option.some Jvm.ClassFile.FieldType.int) cJ11_checkIndex) tJ11_checkIndex := (AllE_c ⟨dJ11_checkIndex_0, trivial, rfl⟩ (AllE_c ⟨dJ11_checkIndex_1, trivial, rfl⟩ (AllE_c ⟨dJ11_checkIndex_2, trivial, rfl⟩ (AllE_c ⟨dJ11_checkIndex_3, Or.inl ⟨_, _, _, _, rfl, lw_S q801 q802 q192 q803, ⟨by decide +kernel, by decide +kernel, by decide +kernel⟩, by decide⟩, rfl⟩ (AllE_c ⟨dJ11_checkIndex_6, rfl, rfl⟩ trivial)))))
theorem okJ11_checkIndex : TabOK RJ11 (Option.some Jvm.ClassFile.FieldType.int) cJ11_checkIndex tJ11_checkIndex := ⟨aJ11_checkIndex, by decide +kernel⟩
def tJ12_max : List Ent := [
  (.iload_n 0, 0, 1, [], [], none),
  (.iload_n 1, 1, 1, [], [], none),
  (.if_icmp .lt 7, 2, 3, [5], [], none),
  (.iload_n 0, 5, 1, [], [], none),
  (.goto 4, 6, 3, [6], [], none),
  (.iload_n 1, 9, 1, [], [], none),
  (.ireturn, 10, 1, [5], [], none)]
theorem aJ12_max : AllE (EntOK RJ12 (Option.some Jvm.ClassFile.FieldType.int) cJ12_max) tJ12_max := (AllE_c ⟨dJ12_max_0, trivial, rfl⟩ (AllE_c ⟨dJ12_max_1, trivial, rfl⟩ (AllE_c ⟨dJ12_max_2, trivial, rfl⟩ (AllE_c ⟨dJ12_max_5, trivial, rfl⟩ (AllE_c ⟨dJ12_max_6, trivial, rfl⟩ (AllE_c ⟨dJ12_max_9, trivial, rfl⟩ (AllE_c ⟨dJ12_max_10, rfl, rfl⟩ trivial)))))))
theorem okJ12_max : TabOK RJ12 (Option.some Jvm.ClassFile.FieldType.int) cJ12_max tJ12_max := ⟨aJ12_max, by decide +kernel⟩
def tJ12_min : List Ent := [
  (.iload_n 0, 0, 1, [], [], none),
  (.iload_n 1, 1, 1, [], [], none),
  (.if_icmp .gt 7, 2, 3, [5], [], none),
  (.iload_n 0, 5, 1, [], [], none),
  (.goto 4, 6, 3, [6], [], none),
  (.iload_n 1, 9, 1, [], [], none),
  (.ireturn, 10, 1, [5], [], none)]
theorem aJ12_min : AllE (EntOK RJ12 (Option.some Jvm.ClassFile.FieldType.int) cJ12_min) tJ12_min := (AllE_c ⟨dJ12_min_0, trivial, rfl⟩ (AllE_c ⟨dJ12_min_1, trivial, rfl⟩ (AllE_c ⟨dJ12_min_2, trivial, rfl⟩ (AllE_c ⟨dJ12_min_5, trivial, rfl⟩ (AllE_c ⟨dJ12_min_6, trivial, rfl⟩ (AllE_c ⟨dJ12_min_9, trivial, rfl⟩ (AllE_c ⟨dJ12_min_10, rfl, rfl⟩ trivial)))))))
theorem okJ12_min : TabOK RJ12 (Option.some Jvm.ClassFile.FieldType.int) cJ12_min tJ12_min := ⟨aJ12_min, by decide +kernel⟩
def tJ12_min_2 : List Ent := [
  (.lload_n 0, 0, 1, [], [], none),
  (.lload_n 2, 1, 1, [], [], none),
  (.lcmp, 2, 1, [], [], none),
  (.ifCond .gt 7, 3, 3, [6], [], none),
  (.lload_n 0, 6, 1, [], [], none),
  (.goto 4, 7, 3, [7], [], none),
  (.lload_n 2, 10, 1, [], [], none),
  (.lreturn, 11, 1, [], [], none)]
theorem aJ12_min_2 : AllE (EntOK RJ12 (Option.some Jvm.ClassFile.FieldType.long) cJ12_min_2) tJ12_min_2 := (AllE_c ⟨dJ12_min_2_0, trivial, rfl⟩ (AllE_c ⟨dJ12_min_2_1, trivial, rfl⟩ (AllE_c ⟨dJ12_min_2_2, trivial, rfl⟩ (AllE_c ⟨dJ12_min_2_3, trivial, rfl⟩ (AllE_c ⟨dJ12_min_2_6, trivial, rfl⟩ (AllE_c ⟨dJ12_min_2_7, trivial, rfl⟩ (AllE_c ⟨dJ12_min_2_10, trivial, rfl⟩ (AllE_c ⟨dJ12_min_2_11, rfl, rfl⟩ trivial))))))))
theorem okJ12_min_2 : TabOK RJ12 (Option.some Jvm.ClassFile.FieldType.long) cJ12_min_2 tJ12_min_2 := ⟨aJ12_min_2, by decide +kernel⟩
def tJ12_max_2 : List Ent := [
  (.lload_n 0, 0, 1, [], [], none),
  (.lload_n 2, 1, 1, [], [], none),
  (.lcmp, 2, 1, [], [], none),
  (.ifCond .lt 7, 3, 3, [6], [], none),
  (.lload_n 0, 6, 1, [], [], none),
  (.goto 4, 7, 3, [7], [], none),
  (.lload_n 2, 10, 1, [], [], none),
  (.lreturn, 11, 1, [], [], none)]
theorem aJ12_max_2 : AllE (EntOK RJ12 (Option.some Jvm.ClassFile.FieldType.long) cJ12_max_2) tJ12_max_2 := (AllE_c ⟨dJ12_max_2_0, trivial, rfl⟩ (AllE_c ⟨dJ12_max_2_1, trivial, rfl⟩ (AllE_c ⟨dJ12_max_2_2, trivial, rfl⟩ (AllE_c ⟨dJ12_max_2_3, trivial, rfl⟩ (AllE_c ⟨dJ12_max_2_6, trivial, rfl⟩ (AllE_c ⟨dJ12_max_2_7, trivial, rfl⟩ (AllE_c ⟨dJ12_max_2_10, trivial, rfl⟩ (AllE_c ⟨dJ12_max_2_11, rfl, rfl⟩ trivial))))))))
theorem okJ12_max_2 : TabOK RJ12 (Option.some Jvm.ClassFile.FieldType.long) cJ12_max_2 tJ12_max_2 := ⟨aJ12_max_2, by decide +kernel⟩
def tJ12_floorDiv : List Ent := [
  (.lload_n 0, 0, 1, [], [], none),
  (.lload_n 2, 1, 1, [], [], none),
  (.ldiv, 2, 1, [], [], none),
  (.lstore 4, 3, 2, [], [], none),
  (.lload_n 0, 5, 1, [], [], none),
  (.lload_n 2, 6, 1, [], [], none),
  (.lxor, 7, 1, [], [], none),
  (.lconst 0, 8, 1, [0], [], none),
  (.lcmp, 9, 1, [], [], none),
  (.ifCond .ge 17, 10, 3, [20], [], none),
  (.lload 4, 13, 2, [], [], none),
  (.lload_n 2, 15, 1, [], [], none),
  (.lmul, 16, 1, [], [], none),
  (.lload_n 0, 17, 1, [], [], none),
  (.lcmp, 18, 1, [], [], none),
  (.ifCond .eq 8, 19, 3, [20], [], none),
  (.lload 4, 22, 2, [], [], none),
  (.lconst 1, 24, 1, [1], [], none),
  (.lsub, 25, 1, [], [], none),
  (.lreturn, 26, 1, [], [], none),
  (.lload 4, 27, 2, [], [], none),
  (.lreturn, 29, 1, [], [], none)]
theorem aJ12_floorDiv : AllE (EntOK RJ12 (Option.some Jvm.ClassFile.FieldType.long) cJ12_floorDiv) tJ12_floorDiv := (AllE_c ⟨dJ12_floorDiv_0, trivial, rfl⟩ (AllE_c ⟨dJ12_floorDiv_1, trivial, rfl⟩ (AllE_c ⟨dJ12_floorDiv_2, trivial, rfl⟩ (AllE_c ⟨dJ12_floorDiv_3, trivial, rfl⟩ (AllE_c ⟨dJ12_floorDiv_5, trivial, rfl⟩ (AllE_c ⟨dJ12_floorDiv_6, trivial, rfl⟩ (AllE_c ⟨dJ12_floorDiv_7, trivial, rfl⟩ (AllE_c ⟨dJ12_floorDiv_8, trivial, rfl⟩ (AllE_c ⟨dJ12_floorDiv_9, trivial, rfl⟩ (AllE_c ⟨dJ12_floorDiv_10, trivial, rfl⟩ (AllE_c ⟨dJ12_floorDiv_13, trivial, rfl⟩ (AllE_c ⟨dJ12_floorDiv_15, trivial, rfl⟩ (AllE_c ⟨dJ12_floorDiv_16, trivial, rfl⟩ (AllE_c ⟨dJ12_floorDiv_17, trivial, rfl⟩ (AllE_c ⟨dJ12_floorDiv_18, trivial, rfl⟩ (AllE_c ⟨dJ12_floorDiv_19, trivial, rfl⟩ (AllE_c ⟨dJ12_floorDiv_22, trivial, rfl⟩ (AllE_c ⟨dJ12_floorDiv_24, trivial, rfl⟩ (AllE_c ⟨dJ12_floorDiv_25, trivial, rfl⟩ (AllE_c ⟨dJ12_floorDiv_26, rfl, rfl⟩ (AllE_c ⟨dJ12_floorDiv_27, trivial, rfl⟩ (AllE_c ⟨dJ12_floorDiv_29, rfl, rfl⟩ trivial))))))))))))))))))))))
theorem okJ12_floorDiv : TabOK RJ12 (Option.some Jvm.ClassFile.FieldType.long) cJ12_floorDiv tJ12_floorDiv := ⟨aJ12_floorDiv, by decide +kernel⟩
def tJ12_floorMod : List Ent := [
  (.iload_n 0, 0, 1, [], [], none),
  (.iload_n 1, 1, 1, [], [], none),
  (.irem, 2, 1, [], [], none),
  (.istore_n 2, 3, 1, [], [], none),
  (.iload_n 0, 4, 1, [], [], none),
  (.iload_n 1, 5, 1, [], [], none),
  (.ixor, 6, 1, [], [], none),
  (.ifCond .ge 11, 7, 3, [14], [], none),
  (.iload_n 2, 10, 1, [], [], none),
  (.ifCond .eq 7, 11, 3, [14], [], none),
  (.iload_n 2, 14, 1, [], [], none),
  (.iload_n 1, 15, 1, [], [], none),
  (.iadd, 16, 1, [], [], none),
  (.ireturn, 17, 1, [5], [], none),
  (.iload_n 2, 18, 1, [], [], none),
  (.ireturn, 19, 1, [5], [], none)]
theorem aJ12_floorMod : AllE (EntOK RJ12 (Option.some Jvm.ClassFile.FieldType.int) cJ12_floorMod) tJ12_floorMod := (AllE_c ⟨dJ12_floorMod_0, trivial, rfl⟩ (AllE_c ⟨dJ12_floorMod_1, trivial, rfl⟩ (AllE_c ⟨dJ12_floorMod_2, trivial, rfl⟩ (AllE_c ⟨dJ12_floorMod_3, trivial, rfl⟩ (AllE_c ⟨dJ12_floorMod_4, trivial, rfl⟩ (AllE_c ⟨dJ12_floorMod_5, trivial, rfl⟩ (AllE_c ⟨dJ12_floorMod_6, trivial, rfl⟩ (AllE_c ⟨dJ12_floorMod_7, trivial, rfl⟩ (AllE_c ⟨dJ12_floorMod_10, trivial, rfl⟩ (AllE_c ⟨dJ12_floorMod_11, trivial, rfl⟩ (AllE_c ⟨dJ12_floorMod_14, trivial, rfl⟩ (AllE_c ⟨dJ12_floorMod_15, trivial, rfl⟩ (AllE_c ⟨dJ12_floorMod_16, trivial, rfl⟩ (AllE_c ⟨dJ12_floorMod_17, rfl, rfl⟩ (AllE_c ⟨dJ12_floorMod_18, trivial, rfl⟩ (AllE_c ⟨dJ12_floorMod_19, rfl, rfl⟩ trivial))))))))))))))))
theorem okJ12_floorMod : TabOK RJ12 (Option.some Jvm.ClassFile.FieldType.int) cJ12_floorMod tJ12_floorMod := ⟨aJ12_floorMod, by decide +kernel⟩
def tJ13_copyOf : List Ent := [
  (.aload_n 0, 0, 1, [], [], none),
  (.iload_n 1, 1, 1, [], [], none),
  (.aload_n 0, 2, 1, [], [], none),
  (.invokevirtual 86, 3, 3, [96, 0], [], none),
  (.invokestatic 300, 6, 3, [3, 341], [], none),
  (.areturn, 9, 1, [], [], none)]
theorem aJ13_copyOf : AllE (EntOK RJ13 (Option.some (Jvm.ClassFile.FieldType.array (Jvm.ClassFile.FieldType.object "java/lang/Object"))) cJ13_copyOf) tJ13_copyOf := (AllE_c ⟨dJ13_copyOf_0, trivial, rfl⟩ (AllE_c ⟨dJ13_copyOf_1, trivial, rfl⟩ (AllE_c ⟨dJ13_copyOf_2, trivial, rfl⟩ (AllE_c ⟨dJ13_copyOf_3, ⟨q854, q2680, q855, q881, q2681⟩, rfl⟩ (AllE_c ⟨dJ13_copyOf_6, Or.inl ⟨_, _, _, _, rfl, lw_S q882 q883 q198 q884, ⟨by decide +kernel, by decide +kernel, by decide +kernel⟩, by decide⟩, rfl⟩ (AllE_c ⟨dJ13_copyOf_9, Or.inr ⟨_, rfl⟩, rfl⟩ trivial))))))
theorem okJ13_copyOf : TabOK RJ13 (Option.some (Jvm.ClassFile.FieldType.array (Jvm.ClassFile.FieldType.object "java/lang/Object"))) cJ13_copyOf tJ13_copyOf := ⟨aJ13_copyOf, by decide +kernel⟩
def tJ13_copyOf_2 : List Ent := [
  (.aload_n 2, 0, 1, [], [], none),
  (.ldc 110, 1, 2, [2], [], none),
  (.if_acmp .ne 10, 3, 3, [6], [], none),
  (.iload_n 1, 6, 1, [], [], none),
  (.anewarray 2, 7, 3, [7], [], none),
  (.goto 14, 10, 3, [11], [], none),
  (.aload_n 2, 13, 1, [], [], none),
  (.invokevirtual 90, 14, 3, [], [], none),
  (.iload_n 1, 17, 1, [], [], none),
  (.invokestatic 95, 18, 3, [], [], none),
  (.checkcast 110, 21, 3, [1007], [], none),
  (.astore_n 3, 24, 1, [], [], none),
  (.aload_n 0, 25, 1, [], [], none),
  (.iconst 0, 26, 1, [0, 0], [], none),
  (.aload_n 3, 27, 1, [], [], none),
  (.iconst 0, 28, 1, [0, 0], [], none),
  (.aload_n 0, 29, 1, [], [], none),
  (.arraylength, 30, 1, [], [], none),
  (.iload_n 1, 31, 1, [], [], none),
  (.invokestatic 304, 32, 3, [2, 335], [], none),
  (.invokestatic 150, 35, 3, [97], [], none),
  (.aload_n 3, 38, 1, [], [], none),
  (.areturn, 39, 1, [], [], none)]
theorem aJ13_copyOf_2 : AllE (EntOK RJ13 (Option.some (Jvm.ClassFile.FieldType.array (Jvm.ClassFile.FieldType.object "java/lang/Object"))) cJ13_copyOf_2) tJ13_copyOf_2 := (AllE_c ⟨dJ13_copyOf_2_0, trivial, rfl⟩ (AllE_c ⟨dJ13_copyOf_2_1, q885, rfl⟩ (AllE_c ⟨dJ13_copyOf_2_3, trivial, rfl⟩ (AllE_c ⟨dJ13_copyOf_2_6, trivial, rfl⟩ (AllE_c ⟨dJ13_copyOf_2_7, q886, rfl⟩ (AllE_c ⟨dJ13_copyOf_2_10, trivial, rfl⟩ (AllE_c ⟨dJ13_copyOf_2_13, trivial, rfl⟩ (AllE_c ⟨dJ13_copyOf_2_14, trivial, rfl⟩ (AllE_c ⟨dJ13_copyOf_2_17, trivial, rfl⟩ (AllE_c ⟨dJ13_copyOf_2_18, trivial, rfl⟩ (AllE_c ⟨dJ13_copyOf_2_21, Or.inr ⟨_, q885, ⟨Or.inr (Or.inr ⟨rfl, rfl⟩), trivial⟩⟩, rfl⟩ (AllE_c ⟨dJ13_copyOf_2_24, trivial, rfl⟩ (AllE_c ⟨dJ13_copyOf_2_25, trivial, rfl⟩ (AllE_c ⟨dJ13_copyOf_2_26, trivial, rfl⟩ (AllE_c ⟨dJ13_copyOf_2_27, trivial, rfl⟩ (AllE_c ⟨dJ13_copyOf_2_28, trivial, rfl⟩ (AllE_c ⟨dJ13_copyOf_2_29, trivial, rfl⟩ (AllE_c ⟨dJ13_copyOf_2_30, trivial, rfl⟩ (AllE_c ⟨dJ13_copyOf_2_31, trivial, rfl⟩ (AllE_c ⟨dJ13_copyOf_2_32, Or.inl ⟨_, _, _, _, rfl, lw_S q887 q888 q197 q889, ⟨by decide +kernel, by decide +kernel, by decide +kernel⟩, by decide⟩, rfl⟩ (AllE_c ⟨dJ13_copyOf_2_35, ⟨q890, q892, q891, q199⟩, rfl⟩ (AllE_c ⟨dJ13_copyOf_2_38, trivial, rfl⟩ (AllE_c ⟨dJ13_copyOf_2_39, Or.inr ⟨_, rfl⟩, rfl⟩ trivial)))))))))))))))))))))))
theorem okJ13_copyOf_2 : TabOK RJ13 (Option.some (Jvm.ClassFile.FieldType.array (Jvm.ClassFile.FieldType.object "java/lang/Object"))) cJ13_copyOf_2 tJ13_copyOf_2 := ⟨aJ13_copyOf_2, by decide +kernel⟩
def tJ13_copyOf_3 : List Ent := [
  (.iload_n 1, 0, 1, [], [], none),
  (.aload_n 0, 1, 1, [], [], none),
  (.arraylength, 2, 1, [], [], none),
  (.if_icmp .ne 11, 3, 3, [8], [], none),
  (.aload_n 0, 6, 1, [], [], none),
  (.invokevirtual 310, 7, 3, [], [], none),
  (.checkcast 311, 10, 3, [1002], [], none),
  (.areturn, 13, 1, [], [], none),
  (.iload_n 1, 14, 1, [], [], none),
  (.newarray .byte, 15, 2, [2], [], none),
  (.astore_n 2, 17, 1, [], [], none),
  (.aload_n 0, 18, 1, [], [], none),
  (.iconst 0, 19, 1, [0, 0], [], none),
  (.aload_n 2, 20, 1, [], [], none),
  (.iconst 0, 21, 1, [0, 0], [], none),
  (.aload_n 0, 22, 1, [], [], none),
  (.arraylength, 23, 1, [], [], none),
  (.iload_n 1, 24, 1, [], [], none),
  (.invokestatic 304, 25, 3, [2, 335], [], none),
  (.invokestatic 150, 28, 3, [97], [], none),
  (.aload_n 2, 31, 1, [], [], none),
  (.areturn, 32, 1, [], [], none)]
theorem aJ13_copyOf_3 : AllE (EntOK RJ13 (Option.some (Jvm.ClassFile.FieldType.array Jvm.ClassFile.FieldType.byte)) cJ13_copyOf_3) tJ13_copyOf_3 := (AllE_c ⟨dJ13_copyOf_3_0, trivial, rfl⟩ (AllE_c ⟨dJ13_copyOf_3_1, trivial, rfl⟩ (AllE_c ⟨dJ13_copyOf_3_2, trivial, rfl⟩ (AllE_c ⟨dJ13_copyOf_3_3, trivial, rfl⟩ (AllE_c ⟨dJ13_copyOf_3_6, trivial, rfl⟩ (AllE_c ⟨dJ13_copyOf_3_7, trivial, rfl⟩ (AllE_c ⟨dJ13_copyOf_3_10, Or.inr ⟨_, q1086, ⟨Or.inr (Or.inl ⟨rfl, rfl⟩), trivial⟩⟩, rfl⟩ (AllE_c ⟨dJ13_copyOf_3_13, Or.inr ⟨_, rfl⟩, rfl⟩ (AllE_c ⟨dJ13_copyOf_3_14, trivial, rfl⟩ (AllE_c ⟨dJ13_copyOf_3_15, ⟨rfl, q361⟩, rfl⟩ (AllE_c ⟨dJ13_copyOf_3_17, trivial, rfl⟩ (AllE_c ⟨dJ13_copyOf_3_18, trivial, rfl⟩ (AllE_c ⟨dJ13_copyOf_3_19, trivial, rfl⟩ (AllE_c ⟨dJ13_copyOf_3_20, trivial, rfl⟩ (AllE_c ⟨dJ13_copyOf_3_21, trivial, rfl⟩ (AllE_c ⟨dJ13_copyOf_3_22, trivial, rfl⟩ (AllE_c ⟨dJ13_copyOf_3_23, trivial, rfl⟩ (AllE_c ⟨dJ13_copyOf_3_24, trivial, rfl⟩ (AllE_c ⟨dJ13_copyOf_3_25, Or.inl ⟨_, _, _, _, rfl, lw_S q887 q888 q197 q889, ⟨by decide +kernel, by decide +kernel, by decide +kernel⟩, by decide⟩, rfl⟩ (AllE_c ⟨dJ13_copyOf_3_28, ⟨q890, q892, q891, q199⟩, rfl⟩ (AllE_c ⟨dJ13_copyOf_3_31, trivial, rfl⟩ (AllE_c ⟨dJ13_copyOf_3_32, Or.inr ⟨_, rfl⟩, rfl⟩ trivial))))))))))))))))))))))
theorem okJ13_copyOf_3 : TabOK RJ13 (Option.some (Jvm.ClassFile.FieldType.array Jvm.ClassFile.FieldType.byte)) cJ13_copyOf_3 tJ13_copyOf_3 := ⟨aJ13_copyOf_3, by decide +kernel⟩
theorem rpJ14_15_21 : FL RJ14 15 21 0 7 false := ⟨_, _, _, _, cf_21, by decide, rfl, rfl, Or.inl q955, fun h => by cases h⟩
theorem rpJ14_22_21 : FL RJ14 22 21 1 2 false := ⟨_, _, _, _, cf_21, by decide, rfl, rfl, Or.inl q956, fun h => by cases h⟩
def tJ14_init : List Ent := [
  (.aload_n 0, 0, 1, [], [], none),
  (.invokespecial 3, 1, 3, [99], [], none),
  (.getstatic 18, 4, 3, [0, 1], [], none),
  (.ifCond .eq 18, 7, 3, [12], [], none),
  (.aload_n 0, 10, 1, [], [], none),
  (.iload_n 1, 11, 1, [], [], none),
  (.newarray .byte, 12, 2, [2], [], none),
  (.putfield 15, 14, 3, [7, 0, 0, 21], [], none),
  (.aload_n 0, 17, 1, [], [], none),
  (.iconst 0, 18, 1, [0, 0], [], none),
  (.putfield 22, 19, 3, [2, 0, 1, 21], [], none),
  (.goto 16, 22, 3, [19], [], none),
  (.aload_n 0, 25, 1, [], [], none),
  (.iload_n 1, 26, 1, [], [], none),
  (.invokestatic 26, 27, 3, [1, 360], [], none),
  (.putfield 15, 30, 3, [7, 0, 0, 21], [], none),
  (.aload_n 0, 33, 1, [], [], none),
  (.iconst 1, 34, 1, [0, 1], [], none),
  (.putfield 22, 35, 3, [2, 0, 1, 21], [], none),
  (.return_, 38, 1, [], [], none)]
theorem aJ14_init : AllE (EntOK RJ14 (none) cJ14_init) tJ14_init := (AllE_c ⟨dJ14_init_0, trivial, rfl⟩ (AllE_c ⟨dJ14_init_1, ⟨q952, q223, q224⟩, rfl⟩ (AllE_c ⟨dJ14_init_4, ⟨_, _, _, statL_2, Or.inl q953⟩, rfl⟩ (AllE_c ⟨dJ14_init_7, trivial, rfl⟩ (AllE_c ⟨dJ14_init_10, trivial, rfl⟩ (AllE_c ⟨dJ14_init_11, trivial, rfl⟩ (AllE_c ⟨dJ14_init_12, ⟨rfl, q361⟩, rfl⟩ (AllE_c ⟨dJ14_init_14, ⟨rpJ14_15_21, trivial⟩, rfl⟩ (AllE_c ⟨dJ14_init_17, trivial, rfl⟩ (AllE_c ⟨dJ14_init_18, trivial, rfl⟩ (AllE_c ⟨dJ14_init_19, ⟨rpJ14_22_21, trivial⟩, rfl⟩ (AllE_c ⟨dJ14_init_22, trivial, rfl⟩ (AllE_c ⟨dJ14_init_25, trivial, rfl⟩ (AllE_c ⟨dJ14_init_26, trivial, rfl⟩ (AllE_c ⟨dJ14_init_27, Or.inl ⟨_, _, _, _, rfl, lw_S q954 q629 q191 q630, ⟨by decide +kernel, by decide +kernel, by decide +kernel⟩, by decide⟩, rfl⟩ (AllE_c ⟨dJ14_init_30, ⟨rpJ14_15_21, trivial⟩, rfl⟩ (AllE_c ⟨dJ14_init_33, trivial, rfl⟩ (AllE_c ⟨dJ14_init_34, trivial, rfl⟩ (AllE_c ⟨dJ14_init_35, ⟨rpJ14_22_21, trivial⟩, rfl⟩ (AllE_c ⟨dJ14_init_38, rfl, rfl⟩ trivial))))))))))))))))))))
theorem okJ14_init : TabOK RJ14 (none) cJ14_init tJ14_init := ⟨aJ14_init, by decide +kernel⟩
theorem rgJ14_79_21 : FLg RJ14 79 21 3 5 := ⟨_, _, _, _, cf_21, by decide, rfl, Or.inl q957⟩
theorem rgJ14_15_21 : FLg RJ14 15 21 0 7 := ⟨_, _, _, _, cf_21, by decide, rfl, Or.inl q955⟩
theorem rpJ14_79_21 : FL RJ14 79 21 3 5 false := ⟨_, _, _, _, cf_21, by decide, rfl, rfl, Or.inl q957, fun h => by cases h⟩
def tJ14_append : List Ent := [
  (.aload_n 0, 0, 1, [], [], none),
  (.aload_n 0, 1, 1, [], [], none),
  (.getfield 79, 2, 3, [5, 3, 21], [], none),
  (.iconst 1, 5, 1, [0, 1], [], none),
  (.iadd, 6, 1, [], [], none),
  (.invokevirtual 100, 7, 3, [1], [(21, 345)], none),
  (.aload_n 0, 10, 1, [], [], none),
  (.invokevirtual 83, 11, 3, [0], [(21, 347)], none),
  (.ifCond .eq 31, 14, 3, [25], [], none),
  (.iload_n 1, 17, 1, [], [], none),
  (.invokestatic 191, 18, 3, [1, 377], [], none),
  (.ifCond .eq 24, 21, 3, [25], [], none),
  (.aload_n 0, 24, 1, [], [], none),
  (.getfield 15, 25, 3, [7, 0, 21], [], none),
  (.aload_n 0, 28, 1, [], [], none),
  (.dup, 29, 1, [], [], none),
  (.getfield 79, 30, 3, [5, 3, 21], [], none),
  (.dup_x1, 33, 1, [], [], none),
  (.iconst 1, 34, 1, [0, 1], [], none),
  (.iadd, 35, 1, [], [], none),
  (.putfield 79, 36, 3, [5, 0, 3, 21], [], none),
  (.iload_n 1, 39, 1, [], [], none),
  (.i2b, 40, 1, [], [], none),
  (.bastore, 41, 1, [], [], none),
  (.goto 33, 42, 3, [41], [], none),
  (.aload_n 0, 45, 1, [], [], none),
  (.invokevirtual 83, 46, 3, [0], [(21, 347)], none),
  (.ifCond .eq 7, 49, 3, [30], [], none),
  (.aload_n 0, 52, 1, [], [], none),
  (.invokevirtual 195, 53, 3, [], [], none),
  (.aload_n 0, 56, 1, [], [], none),
  (.getfield 15, 57, 3, [7, 0, 21], [], none),
  (.aload_n 0, 60, 1, [], [], none),
  (.dup, 61, 1, [], [], none),
  (.getfield 79, 62, 3, [5, 3, 21], [], none),
  (.dup_x1, 65, 1, [], [], none),
  (.iconst 1, 66, 1, [0, 1], [], none),
  (.iadd, 67, 1, [], [], none),
  (.putfield 79, 68, 3, [5, 0, 3, 21], [], none),
  (.iload_n 1, 71, 1, [], [], none),
  (.invokestatic 197, 72, 3, [3, 370], [], none),
  (.aload_n 0, 75, 1, [], [], none),
  (.areturn, 76, 1, [], [], none)]
theorem aJ14_append : AllE (EntOK RJ14 (Option.some (Jvm.ClassFile.FieldType.object "java/lang/AbstractStringBuilder")) cJ14_append) tJ14_append := (AllE_c ⟨dJ14_append_0, trivial, rfl⟩ (AllE_c ⟨dJ14_append_1, trivial, rfl⟩ (AllE_c ⟨dJ14_append_2, ⟨rgJ14_79_21, trivial⟩, rfl⟩ (AllE_c ⟨dJ14_append_5, trivial, rfl⟩ (AllE_c ⟨dJ14_append_6, trivial, rfl⟩ (AllE_c ⟨dJ14_append_7, ⟨Or.inr (Or.inr (Or.inr (Or.inr ⟨rfl, _, _, _, _, rfl, q1067, q2638, priv_ensureCapacityInternal, q1069, q203, q1070, ⟨by decide +kernel, by decide +kernel, by decide +kernel⟩, by decide⟩))), trivial⟩, rfl⟩ (AllE_c ⟨dJ14_append_10, trivial, rfl⟩ (AllE_c ⟨dJ14_append_11, ⟨Or.inr (Or.inr (Or.inl ⟨_, _, _, ⟨"java/lang/AbstractStringBuilder", "isLatin1", "()Z"⟩, _, _, _, _, _, rfl, rfl, lw_five q1087 q1089 q1090 q1088 q203 (lw_meth q1091), Or.inl rfl, ⟨by decide +kernel, by decide +kernel, by decide +kernel⟩, by decide⟩)), trivial⟩, rfl⟩ (AllE_c ⟨dJ14_append_14, trivial, rfl⟩ (AllE_c ⟨dJ14_append_17, trivial, rfl⟩ (AllE_c ⟨dJ14_append_18, Or.inl ⟨_, _, _, _, rfl, lw_S q1092 q1093 q193 q1094, ⟨by decide +kernel, by decide +kernel, by decide +kernel⟩, by decide⟩, rfl⟩ (AllE_c ⟨dJ14_append_21, trivial, rfl⟩ (AllE_c ⟨dJ14_append_24, trivial, rfl⟩ (AllE_c ⟨dJ14_append_25, ⟨rgJ14_15_21, trivial⟩, rfl⟩ (AllE_c ⟨dJ14_append_28, trivial, rfl⟩ (AllE_c ⟨dJ14_append_29, trivial, rfl⟩ (AllE_c ⟨dJ14_append_30, ⟨rgJ14_79_21, trivial⟩, rfl⟩ (AllE_c ⟨dJ14_append_33, trivial, rfl⟩ (AllE_c ⟨dJ14_append_34, trivial, rfl⟩ (AllE_c ⟨dJ14_append_35, trivial, rfl⟩ (AllE_c ⟨dJ14_append_36, ⟨rpJ14_79_21, trivial⟩, rfl⟩ (AllE_c ⟨dJ14_append_39, trivial, rfl⟩ (AllE_c ⟨dJ14_append_40, trivial, rfl⟩ (AllE_c ⟨dJ14_append_41, trivial, rfl⟩ (AllE_c ⟨dJ14_append_42, trivial, rfl⟩ (AllE_c ⟨dJ14_append_45, trivial, rfl⟩ (AllE_c ⟨dJ14_append_46, ⟨Or.inr (Or.inr (Or.inl ⟨_, _, _, ⟨"java/lang/AbstractStringBuilder", "isLatin1", "()Z"⟩, _, _, _, _, _, rfl, rfl, lw_five q1087 q1089 q1090 q1088 q203 (lw_meth q1091), Or.inl rfl, ⟨by decide +kernel, by decide +kernel, by decide +kernel⟩, by decide⟩)), trivial⟩, rfl⟩ (AllE_c ⟨dJ14_append_49, trivial, rfl⟩ (AllE_c ⟨dJ14_append_52, trivial, rfl⟩ (AllE_c ⟨dJ14_append_53, trivial, rfl⟩ (AllE_c ⟨dJ14_append_56, trivial, rfl⟩ (AllE_c ⟨dJ14_append_57, ⟨rgJ14_15_21, trivial⟩, rfl⟩ (AllE_c ⟨dJ14_append_60, trivial, rfl⟩ (AllE_c ⟨dJ14_append_61, trivial, rfl⟩ (AllE_c ⟨dJ14_append_62, ⟨rgJ14_79_21, trivial⟩, rfl⟩ (AllE_c ⟨dJ14_append_65, trivial, rfl⟩ (AllE_c ⟨dJ14_append_66, trivial, rfl⟩ (AllE_c ⟨dJ14_append_67, trivial, rfl⟩ (AllE_c ⟨dJ14_append_68, ⟨rpJ14_79_21, trivial⟩, rfl⟩ (AllE_c ⟨dJ14_append_71, trivial, rfl⟩ (AllE_c ⟨dJ14_append_72, Or.inl ⟨_, _, _, _, rfl, lw_S q1105 q1106 q191 q1107, ⟨by decide +kernel, by decide +kernel, by decide +kernel⟩, by decide⟩, rfl⟩ (AllE_c ⟨dJ14_append_75, trivial, rfl⟩ (AllE_c ⟨dJ14_append_76, Or.inl ⟨_, rfl⟩, rfl⟩ trivial)))))))))))))))))))))))))))))))))))))))))))
theorem okJ14_append : TabOK RJ14 (Option.some (Jvm.ClassFile.FieldType.object "java/lang/AbstractStringBuilder")) cJ14_append tJ14_append := ⟨aJ14_append, by decide +kernel⟩
theorem rgJ14_22_21 : FLg RJ14 22 21 1 2 := ⟨_, _, _, _, cf_21, by decide, rfl, Or.inl q956⟩
def tJ14_ensureCapacityInternal : List Ent := [
  (.aload_n 0, 0, 1, [], [], none),
  (.getfield 15, 1, 3, [7, 0, 21], [], none),
  (.arraylength, 4, 1, [], [], none),
  (.aload_n 0, 5, 1, [], [], none),
  (.getfield 22, 6, 3, [2, 1, 21], [], none),
  (.ishr, 9, 1, [], [], none),
  (.istore_n 2, 10, 1, [], [], none),
  (.iload_n 1, 11, 1, [], [], none),
  (.iload_n 2, 12, 1, [], [], none),
  (.isub, 13, 1, [], [], none),
  (.ifCond .le 24, 14, 3, [22], [], none),
  (.aload_n 0, 17, 1, [], [], none),
  (.aload_n 0, 18, 1, [], [], none),
  (.getfield 15, 19, 3, [7, 0, 21], [], none),
  (.aload_n 0, 22, 1, [], [], none),
  (.iload_n 1, 23, 1, [], [], none),
  (.invokevirtual 104, 24, 3, [1], [(21, 346)], none),
  (.aload_n 0, 27, 1, [], [], none),
  (.getfield 22, 28, 3, [2, 1, 21], [], none),
  (.ishl, 31, 1, [], [], none),
  (.invokestatic 108, 32, 3, [2, 342], [], none),
  (.putfield 15, 35, 3, [7, 0, 0, 21], [], none),
  (.return_, 38, 1, [], [], none)]
theorem aJ14_ensureCapacityInternal : AllE (EntOK RJ14 (none) cJ14_ensureCapacityInternal) tJ14_ensureCapacityInternal := (AllE_c ⟨dJ14_ensureCapacityInternal_0, trivial, rfl⟩ (AllE_c ⟨dJ14_ensureCapacityInternal_1, ⟨rgJ14_15_21, trivial⟩, rfl⟩ (AllE_c ⟨dJ14_ensureCapacityInternal_4, trivial, rfl⟩ (AllE_c ⟨dJ14_ensureCapacityInternal_5, trivial, rfl⟩ (AllE_c ⟨dJ14_ensureCapacityInternal_6, ⟨rgJ14_22_21, trivial⟩, rfl⟩ (AllE_c ⟨dJ14_ensureCapacityInternal_9, trivial, rfl⟩ (AllE_c ⟨dJ14_ensureCapacityInternal_10, trivial, rfl⟩ (AllE_c ⟨dJ14_ensureCapacityInternal_11, trivial, rfl⟩ (AllE_c ⟨dJ14_ensureCapacityInternal_12, trivial, rfl⟩ (AllE_c ⟨dJ14_ensureCapacityInternal_13, trivial, rfl⟩ (AllE_c ⟨dJ14_ensureCapacityInternal_14, trivial, rfl⟩ (AllE_c ⟨dJ14_ensureCapacityInternal_17, trivial, rfl⟩ (AllE_c ⟨dJ14_ensureCapacityInternal_18, trivial, rfl⟩ (AllE_c ⟨dJ14_ensureCapacityInternal_19, ⟨rgJ14_15_21, trivial⟩, rfl⟩ (AllE_c ⟨dJ14_ensureCapacityInternal_22, trivial, rfl⟩ (AllE_c ⟨dJ14_ensureCapacityInternal_23, trivial, rfl⟩ (AllE_c ⟨dJ14_ensureCapacityInternal_24, ⟨Or.inr (Or.inr (Or.inr (Or.inr ⟨rfl, _, _, _, _, rfl, q1071, q2639, priv_newCapacity, q1073, q203, q1074, ⟨by decide +kernel, by decide +kernel, by decide +kernel⟩, by decide⟩))), trivial⟩, rfl⟩ (AllE_c ⟨dJ14_ensureCapacityInternal_27, trivial, rfl⟩ (AllE_c ⟨dJ14_ensureCapacityInternal_28, ⟨rgJ14_22_21, trivial⟩, rfl⟩ (AllE_c ⟨dJ14_ensureCapacityInternal_31, trivial, rfl⟩ (AllE_c ⟨dJ14_ensureCapacityInternal_32, Or.inl ⟨_, _, _, _, rfl, lw_S q1077 q1078 q198 q1079, ⟨by decide +kernel, by decide +kernel, by decide +kernel⟩, by decide⟩, rfl⟩ (AllE_c ⟨dJ14_ensureCapacityInternal_35, ⟨rpJ14_15_21, trivial⟩, rfl⟩ (AllE_c ⟨dJ14_ensureCapacityInternal_38, rfl, rfl⟩ trivial)))))))))))))))))))))))
theorem okJ14_ensureCapacityInternal : TabOK RJ14 (none) cJ14_ensureCapacityInternal tJ14_ensureCapacityInternal := ⟨aJ14_ensureCapacityInternal, by decide +kernel⟩
def tJ14_newCapacity : List Ent := [
  (.aload_n 0, 0, 1, [], [], none),
  (.getfield 15, 1, 3, [7, 0, 21], [], none),
  (.arraylength, 4, 1, [], [], none),
  (.istore_n 2, 5, 1, [], [], none),
  (.iload_n 1, 6, 1, [], [], none),
  (.aload_n 0, 7, 1, [], [], none),
  (.getfield 22, 8, 3, [2, 1, 21], [], none),
  (.ishl, 11, 1, [], [], none),
  (.istore_n 3, 12, 1, [], [], none),
  (.iload_n 3, 13, 1, [], [], none),
  (.iload_n 2, 14, 1, [], [], none),
  (.isub, 15, 1, [], [], none),
  (.istore 4, 16, 2, [], [], none),
  (.iload_n 2, 18, 1, [], [], none),
  (.iload 4, 19, 2, [], [], none),
  (.iload_n 2, 21, 1, [], [], none),
  (.iconst 2, 22, 1, [0, 2], [], none),
  (.aload_n 0, 23, 1, [], [], none),
  (.getfield 22, 24, 3, [2, 1, 21], [], none),
  (.ishl, 27, 1, [], [], none),
  (.iadd, 28, 1, [], [], none),
  (.invokestatic 114, 29, 3, [3, 331], [], none),
  (.istore 5, 32, 2, [], [], none),
  (.iload 5, 34, 2, [], [], none),
  (.ldc 39, 36, 2, [0, 0, 2147483647], [], none),
  (.if_icmp .ne 13, 38, 3, [31], [], none),
  (.new 120, 41, 3, [], [], none),
  (.dup, 44, 1, [], [], none),
  (.ldc 122, 45, 2, [], [], none),
  (.invokespecial 124, 47, 3, [], [], none),
  (.athrow, 50, 1, [], [], none),
  (.iload 5, 51, 2, [], [], none),
  (.aload_n 0, 53, 1, [], [], none),
  (.getfield 22, 54, 3, [2, 1, 21], [], none),
  (.ishr, 57, 1, [], [], none),
  (.ireturn, 58, 1, [5], [], none)]
theorem aJ14_newCapacity : AllE (EntOK RJ14 (Option.some Jvm.ClassFile.FieldType.int) cJ14_newCapacity) tJ14_newCapacity := (AllE_c ⟨dJ14_newCapacity_0, trivial, rfl⟩ (AllE_c ⟨dJ14_newCapacity_1, ⟨rgJ14_15_21, trivial⟩, rfl⟩ (AllE_c ⟨dJ14_newCapacity_4, trivial, rfl⟩ (AllE_c ⟨dJ14_newCapacity_5, trivial, rfl⟩ (AllE_c ⟨dJ14_newCapacity_6, trivial, rfl⟩ (AllE_c ⟨dJ14_newCapacity_7, trivial, rfl⟩ (AllE_c ⟨dJ14_newCapacity_8, ⟨rgJ14_22_21, trivial⟩, rfl⟩ (AllE_c ⟨dJ14_newCapacity_11, trivial, rfl⟩ (AllE_c ⟨dJ14_newCapacity_12, trivial, rfl⟩ (AllE_c ⟨dJ14_newCapacity_13, trivial, rfl⟩ (AllE_c ⟨dJ14_newCapacity_14, trivial, rfl⟩ (AllE_c ⟨dJ14_newCapacity_15, trivial, rfl⟩ (AllE_c ⟨dJ14_newCapacity_16, trivial, rfl⟩ (AllE_c ⟨dJ14_newCapacity_18, trivial, rfl⟩ (AllE_c ⟨dJ14_newCapacity_19, trivial, rfl⟩ (AllE_c ⟨dJ14_newCapacity_21, trivial, rfl⟩ (AllE_c ⟨dJ14_newCapacity_22, trivial, rfl⟩ (AllE_c ⟨dJ14_newCapacity_23, trivial, rfl⟩ (AllE_c ⟨dJ14_newCapacity_24, ⟨rgJ14_22_21, trivial⟩, rfl⟩ (AllE_c ⟨dJ14_newCapacity_27, trivial, rfl⟩ (AllE_c ⟨dJ14_newCapacity_28, trivial, rfl⟩ (AllE_c ⟨dJ14_newCapacity_29, Or.inl ⟨_, _, _, _, rfl, lw_S q1075 q842 q194 q843, ⟨by decide +kernel, by decide +kernel, by decide +kernel⟩, by decide⟩, rfl⟩ (AllE_c ⟨dJ14_newCapacity_32, trivial, rfl⟩ (AllE_c ⟨dJ14_newCapacity_34, trivial, rfl⟩ (AllE_c ⟨dJ14_newCapacity_36, q1076, rfl⟩ (AllE_c ⟨dJ14_newCapacity_38, trivial, rfl⟩ (AllE_c ⟨dJ14_newCapacity_41, trivial, rfl⟩ (AllE_c ⟨dJ14_newCapacity_44, trivial, rfl⟩ (AllE_c ⟨dJ14_newCapacity_45, trivial, rfl⟩ (AllE_c ⟨dJ14_newCapacity_47, trivial, rfl⟩ (AllE_c ⟨dJ14_newCapacity_50, trivial, rfl⟩ (AllE_c ⟨dJ14_newCapacity_51, trivial, rfl⟩ (AllE_c ⟨dJ14_newCapacity_53, trivial, rfl⟩ (AllE_c ⟨dJ14_newCapacity_54, ⟨rgJ14_22_21, trivial⟩, rfl⟩ (AllE_c ⟨dJ14_newCapacity_57, trivial, rfl⟩ (AllE_c ⟨dJ14_newCapacity_58, rfl, rfl⟩ trivial))))))))))))))))))))))))))))))))))))
theorem okJ14_newCapacity : TabOK RJ14 (Option.some Jvm.ClassFile.FieldType.int) cJ14_newCapacity tJ14_newCapacity := ⟨aJ14_newCapacity, by decide +kernel⟩
def tJ14_isLatin1 : List Ent := [
  (.getstatic 18, 0, 3, [0, 1], [], none),
  (.ifCond .eq 14, 3, 3, [7], [], none),
  (.aload_n 0, 6, 1, [], [], none),
  (.getfield 22, 7, 3, [2, 1, 21], [], none),
  (.ifCond .ne 7, 10, 3, [7], [], none),
  (.iconst 1, 13, 1, [0, 1], [], none),
  (.goto 4, 14, 3, [8], [], none),
  (.iconst 0, 17, 1, [0, 0], [], none),
  (.ireturn, 18, 1, [1], [], none)]
theorem aJ14_isLatin1 : AllE (EntOK RJ14 (Option.some Jvm.ClassFile.FieldType.boolean) cJ14_isLatin1) tJ14_isLatin1 := (AllE_c ⟨dJ14_isLatin1_0, ⟨_, _, _, statL_2, Or.inl q953⟩, rfl⟩ (AllE_c ⟨dJ14_isLatin1_3, trivial, rfl⟩ (AllE_c ⟨dJ14_isLatin1_6, trivial, rfl⟩ (AllE_c ⟨dJ14_isLatin1_7, ⟨rgJ14_22_21, trivial⟩, rfl⟩ (AllE_c ⟨dJ14_isLatin1_10, trivial, rfl⟩ (AllE_c ⟨dJ14_isLatin1_13, trivial, rfl⟩ (AllE_c ⟨dJ14_isLatin1_14, trivial, rfl⟩ (AllE_c ⟨dJ14_isLatin1_17, trivial, rfl⟩ (AllE_c ⟨dJ14_isLatin1_18, rfl, rfl⟩ trivial)))))))))
theorem okJ14_isLatin1 : TabOK RJ14 (Option.some Jvm.ClassFile.FieldType.boolean) cJ14_isLatin1 tJ14_isLatin1 := ⟨aJ14_isLatin1, by decide +kernel⟩
def tJ14_inflate : List Ent := [
  (.aload_n 0, 0, 1, [], [], none),
  (.invokevirtual 83, 1, 3, [0], [(21, 347)], none),
  (.ifCond .ne 4, 4, 3, [4], [], none),
  (.return_, 7, 1, [], [], none),
  (.aload_n 0, 8, 1, [], [], none),
  (.getfield 15, 9, 3, [7, 0, 21], [], none),
  (.arraylength, 12, 1, [], [], none),
  (.invokestatic 26, 13, 3, [1, 360], [], none),
  (.astore_n 1, 16, 1, [], [], none),
  (.aload_n 0, 17, 1, [], [], none),
  (.getfield 15, 18, 3, [7, 0, 21], [], none),
  (.iconst 0, 21, 1, [0, 0], [], none),
  (.aload_n 1, 22, 1, [], [], none),
  (.iconst 0, 23, 1, [0, 0], [], none),
  (.aload_n 0, 24, 1, [], [], none),
  (.getfield 79, 25, 3, [5, 3, 21], [], none),
  (.invokestatic 125, 28, 3, [5, 378], [], none),
  (.aload_n 0, 31, 1, [], [], none),
  (.aload_n 1, 32, 1, [], [], none),
  (.putfield 15, 33, 3, [7, 0, 0, 21], [], none),
  (.aload_n 0, 36, 1, [], [], none),
  (.iconst 1, 37, 1, [0, 1], [], none),
  (.putfield 22, 38, 3, [2, 0, 1, 21], [], none),
  (.return_, 41, 1, [], [], none)]
theorem aJ14_inflate : AllE (EntOK RJ14 (none) cJ14_inflate) tJ14_inflate := (AllE_c ⟨dJ14_inflate_0, trivial, rfl⟩ (AllE_c ⟨dJ14_inflate_1, ⟨Or.inr (Or.inr (Or.inl ⟨_, _, _, ⟨"java/lang/AbstractStringBuilder", "isLatin1", "()Z"⟩, _, _, _, _, _, rfl, rfl, lw_five q1087 q1089 q1090 q1088 q203 (lw_meth q1091), Or.inl rfl, ⟨by decide +kernel, by decide +kernel, by decide +kernel⟩, by decide⟩)), trivial⟩, rfl⟩ (AllE_c ⟨dJ14_inflate_4, trivial, rfl⟩ (AllE_c ⟨dJ14_inflate_7, rfl, rfl⟩ (AllE_c ⟨dJ14_inflate_8, trivial, rfl⟩ (AllE_c ⟨dJ14_inflate_9, ⟨rgJ14_15_21, trivial⟩, rfl⟩ (AllE_c ⟨dJ14_inflate_12, trivial, rfl⟩ (AllE_c ⟨dJ14_inflate_13, Or.inl ⟨_, _, _, _, rfl, lw_S q954 q629 q191 q630, ⟨by decide +kernel, by decide +kernel, by decide +kernel⟩, by decide⟩, rfl⟩ (AllE_c ⟨dJ14_inflate_16, trivial, rfl⟩ (AllE_c ⟨dJ14_inflate_17, trivial, rfl⟩ (AllE_c ⟨dJ14_inflate_18, ⟨rgJ14_15_21, trivial⟩, rfl⟩ (AllE_c ⟨dJ14_inflate_21, trivial, rfl⟩ (AllE_c ⟨dJ14_inflate_22, trivial, rfl⟩ (AllE_c ⟨dJ14_inflate_23, trivial, rfl⟩ (AllE_c ⟨dJ14_inflate_24, trivial, rfl⟩ (AllE_c ⟨dJ14_inflate_25, ⟨rgJ14_79_21, trivial⟩, rfl⟩ (AllE_c ⟨dJ14_inflate_28, Or.inl ⟨_, _, _, _, rfl, lw_S q1099 q1100 q193 q1101, ⟨by decide +kernel, by decide +kernel, by decide +kernel⟩, by decide⟩, rfl⟩ (AllE_c ⟨dJ14_inflate_31, trivial, rfl⟩ (AllE_c ⟨dJ14_inflate_32, trivial, rfl⟩ (AllE_c ⟨dJ14_inflate_33, ⟨rpJ14_15_21, trivial⟩, rfl⟩ (AllE_c ⟨dJ14_inflate_36, trivial, rfl⟩ (AllE_c ⟨dJ14_inflate_37, trivial, rfl⟩ (AllE_c ⟨dJ14_inflate_38, ⟨rpJ14_22_21, trivial⟩, rfl⟩ (AllE_c ⟨dJ14_inflate_41, rfl, rfl⟩ trivial))))))))))))))))))))))))
theorem okJ14_inflate : TabOK RJ14 (none) cJ14_inflate tJ14_inflate := ⟨aJ14_inflate, by decide +kernel⟩
def tJ14_charAt : List Ent := [
  (.aload_n 0, 0, 1, [], [], none),
  (.getfield 22, 1, 3, [2, 1, 21], [], none),
  (.istore_n 2, 4, 1, [], [], none),
  (.aload_n 0, 5, 1, [], [], none),
  (.getfield 15, 6, 3, [7, 0, 21], [], none),
  (.astore_n 3, 9, 1, [], [], none),
  (.aload_n 0, 10, 1, [], [], none),
  (.getfield 79, 11, 3, [5, 3, 21], [], none),
  (.aload_n 3, 14, 1, [], [], none),
  (.arraylength, 15, 1, [], [], none),
  (.iload_n 2, 16, 1, [], [], none),
  (.ishr, 17, 1, [], [], none),
  (.invokestatic 138, 18, 3, [2, 335], [], none),
  (.istore 4, 21, 2, [], [], none),
  (.iload_n 1, 23, 1, [], [], none),
  (.iload 4, 24, 2, [], [], none),
  (.invokestatic 144, 26, 3, [2, 320], [], none),
  (.iload_n 2, 29, 1, [], [], none),
  (.ifCond .ne 12, 30, 3, [26], [], none),
  (.aload_n 3, 33, 1, [], [], none),
  (.iload_n 1, 34, 1, [], [], none),
  (.baload, 35, 1, [], [], none),
  (.sipush 255, 36, 3, [0, 255], [], none),
  (.iand, 39, 1, [], [], none),
  (.i2c, 40, 1, [], [], none),
  (.ireturn, 41, 1, [3], [], none),
  (.aload_n 3, 42, 1, [], [], none),
  (.iload_n 1, 43, 1, [], [], none),
  (.invokestatic 148, 44, 3, [2, 364], [], none),
  (.ireturn, 47, 1, [3], [], none)]
theorem aJ14_charAt : AllE (EntOK RJ14 (Option.some Jvm.ClassFile.FieldType.char) cJ14_charAt) tJ14_charAt := (AllE_c ⟨dJ14_charAt_0, trivial, rfl⟩ (AllE_c ⟨dJ14_charAt_1, ⟨rgJ14_22_21, trivial⟩, rfl⟩ (AllE_c ⟨dJ14_charAt_4, trivial, rfl⟩ (AllE_c ⟨dJ14_charAt_5, trivial, rfl⟩ (AllE_c ⟨dJ14_charAt_6, ⟨rgJ14_15_21, trivial⟩, rfl⟩ (AllE_c ⟨dJ14_charAt_9, trivial, rfl⟩ (AllE_c ⟨dJ14_charAt_10, trivial, rfl⟩ (AllE_c ⟨dJ14_charAt_11, ⟨rgJ14_79_21, trivial⟩, rfl⟩ (AllE_c ⟨dJ14_charAt_14, trivial, rfl⟩ (AllE_c ⟨dJ14_charAt_15, trivial, rfl⟩ (AllE_c ⟨dJ14_charAt_16, trivial, rfl⟩ (AllE_c ⟨dJ14_charAt_17, trivial, rfl⟩ (AllE_c ⟨dJ14_charAt_18, Or.inl ⟨_, _, _, _, rfl, lw_S q1286 q888 q197 q889, ⟨by decide +kernel, by decide +kernel, by decide +kernel⟩, by decide⟩, rfl⟩ (AllE_c ⟨dJ14_charAt_21, trivial, rfl⟩ (AllE_c ⟨dJ14_charAt_23, trivial, rfl⟩ (AllE_c ⟨dJ14_charAt_24, trivial, rfl⟩ (AllE_c ⟨dJ14_charAt_26, Or.inl ⟨_, _, _, _, rfl, lw_S q1287 q1112 q190 q1113, ⟨by decide +kernel, by decide +kernel, by decide +kernel⟩, by decide⟩, rfl⟩ (AllE_c ⟨dJ14_charAt_29, trivial, rfl⟩ (AllE_c ⟨dJ14_charAt_30, trivial, rfl⟩ (AllE_c ⟨dJ14_charAt_33, trivial, rfl⟩ (AllE_c ⟨dJ14_charAt_34, trivial, rfl⟩ (AllE_c ⟨dJ14_charAt_35, trivial, rfl⟩ (AllE_c ⟨dJ14_charAt_36, trivial, rfl⟩ (AllE_c ⟨dJ14_charAt_39, trivial, rfl⟩ (AllE_c ⟨dJ14_charAt_40, trivial, rfl⟩ (AllE_c ⟨dJ14_charAt_41, rfl, rfl⟩ (AllE_c ⟨dJ14_charAt_42, trivial, rfl⟩ (AllE_c ⟨dJ14_charAt_43, trivial, rfl⟩ (AllE_c ⟨dJ14_charAt_44, Or.inl ⟨_, _, _, _, rfl, lw_S q1288 q648 q191 q649, ⟨by decide +kernel, by decide +kernel, by decide +kernel⟩, by decide⟩, rfl⟩ (AllE_c ⟨dJ14_charAt_47, rfl, rfl⟩ trivial))))))))))))))))))))))))))))))
theorem okJ14_charAt : TabOK RJ14 (Option.some Jvm.ClassFile.FieldType.char) cJ14_charAt tJ14_charAt := ⟨aJ14_charAt, by decide +kernel⟩
def tJ16_bitCount : List Ent := [
  (.iload_n 0, 0, 1, [], [], none),
  (.iload_n 0, 1, 1, [], [], none),
  (.iconst 1, 2, 1, [0, 1], [], none),
  (.iushr, 3, 1, [], [], none),
  (.ldc_w 265, 4, 3, [0, 0, 1431655765], [], none),
  (.iand, 7, 1, [], [], none),
  (.isub, 8, 1, [], [], none),
  (.istore_n 0, 9, 1, [], [], none),
  (.iload_n 0, 10, 1, [], [], none),
  (.ldc_w 266, 11, 3, [0, 0, 858993459], [], none),
  (.iand, 14, 1, [], [], none),
  (.iload_n 0, 15, 1, [], [], none),
  (.iconst 2, 16, 1, [0, 2], [], none),
  (.iushr, 17, 1, [], [], none),
  (.ldc_w 266, 18, 3, [0, 0, 858993459], [], none),
  (.iand, 21, 1, [], [], none),
  (.iadd, 22, 1, [], [], none),
  (.istore_n 0, 23, 1, [], [], none),
  (.iload_n 0, 24, 1, [], [], none),
  (.iload_n 0, 25, 1, [], [], none),
  (.iconst 4, 26, 1, [0, 4], [], none),
  (.iushr, 27, 1, [], [], none),
  (.iadd, 28, 1, [], [], none),
  (.ldc_w 267, 29, 3, [0, 0, 252645135], [], none),
  (.iand, 32, 1, [], [], none),
  (.istore_n 0, 33, 1, [], [], none),
  (.iload_n 0, 34, 1, [], [], none),
  (.iload_n 0, 35, 1, [], [], none),
  (.bipush 8, 36, 2, [0, 8], [], none),
  (.iushr, 38, 1, [], [], none),
  (.iadd, 39, 1, [], [], none),
  (.istore_n 0, 40, 1, [], [], none),
  (.iload_n 0, 41, 1, [], [], none),
  (.iload_n 0, 42, 1, [], [], none),
  (.bipush 16, 43, 2, [0, 16], [], none),
  (.iushr, 45, 1, [], [], none),
  (.iadd, 46, 1, [], [], none),
  (.istore_n 0, 47, 1, [], [], none),
  (.iload_n 0, 48, 1, [], [], none),
  (.bipush 63, 49, 2, [0, 63], [], none),
  (.iand, 51, 1, [], [], none),
  (.ireturn, 52, 1, [5], [], none)]
theorem aJ16_bitCount : AllE (EntOK RJ16 (Option.some Jvm.ClassFile.FieldType.int) cJ16_bitCount) tJ16_bitCount := (AllE_c ⟨dJ16_bitCount_0, trivial, rfl⟩ (AllE_c ⟨dJ16_bitCount_1, trivial, rfl⟩ (AllE_c ⟨dJ16_bitCount_2, trivial, rfl⟩ (AllE_c ⟨dJ16_bitCount_3, trivial, rfl⟩ (AllE_c ⟨dJ16_bitCount_4, q1469, rfl⟩ (AllE_c ⟨dJ16_bitCount_7, trivial, rfl⟩ (AllE_c ⟨dJ16_bitCount_8, trivial, rfl⟩ (AllE_c ⟨dJ16_bitCount_9, trivial, rfl⟩ (AllE_c ⟨dJ16_bitCount_10, trivial, rfl⟩ (AllE_c ⟨dJ16_bitCount_11, q1470, rfl⟩ (AllE_c ⟨dJ16_bitCount_14, trivial, rfl⟩ (AllE_c ⟨dJ16_bitCount_15, trivial, rfl⟩ (AllE_c ⟨dJ16_bitCount_16, trivial, rfl⟩ (AllE_c ⟨dJ16_bitCount_17, trivial, rfl⟩ (AllE_c ⟨dJ16_bitCount_18, q1470, rfl⟩ (AllE_c ⟨dJ16_bitCount_21, trivial, rfl⟩ (AllE_c ⟨dJ16_bitCount_22, trivial, rfl⟩ (AllE_c ⟨dJ16_bitCount_23, trivial, rfl⟩ (AllE_c ⟨dJ16_bitCount_24, trivial, rfl⟩ (AllE_c ⟨dJ16_bitCount_25, trivial, rfl⟩ (AllE_c ⟨dJ16_bitCount_26, trivial, rfl⟩ (AllE_c ⟨dJ16_bitCount_27, trivial, rfl⟩ (AllE_c ⟨dJ16_bitCount_28, trivial, rfl⟩ (AllE_c ⟨dJ16_bitCount_29, q1471, rfl⟩ (AllE_c ⟨dJ16_bitCount_32, trivial, rfl⟩ (AllE_c ⟨dJ16_bitCount_33, trivial, rfl⟩ (AllE_c ⟨dJ16_bitCount_34, trivial, rfl⟩ (AllE_c ⟨dJ16_bitCount_35, trivial, rfl⟩ (AllE_c ⟨dJ16_bitCount_36, trivial, rfl⟩ (AllE_c ⟨dJ16_bitCount_38, trivial, rfl⟩ (AllE_c ⟨dJ16_bitCount_39, trivial, rfl⟩ (AllE_c ⟨dJ16_bitCount_40, trivial, rfl⟩ (AllE_c ⟨dJ16_bitCount_41, trivial, rfl⟩ (AllE_c ⟨dJ16_bitCount_42, trivial, rfl⟩ (AllE_c ⟨dJ16_bitCount_43, trivial, rfl⟩ (AllE_c ⟨dJ16_bitCount_45, trivial, rfl⟩ (AllE_c ⟨dJ16_bitCount_46, trivial, rfl⟩ (AllE_c ⟨dJ16_bitCount_47, trivial, rfl⟩ (AllE_c ⟨dJ16_bitCount_48, trivial, rfl⟩ (AllE_c ⟨dJ16_bitCount_49, trivial, rfl⟩ (AllE_c ⟨dJ16_bitCount_51, trivial, rfl⟩ (AllE_c ⟨dJ16_bitCount_52, rfl, rfl⟩ trivial))))))))))))))))))))))))))))))))))))))))))
theorem okJ16_bitCount : TabOK RJ16 (Option.some Jvm.ClassFile.FieldType.int) cJ16_bitCount tJ16_bitCount := ⟨aJ16_bitCount, by decide +kernel⟩
def tJ17_init : List Ent := [
  (.return_, 0, 1, [], [], none)]
theorem aJ17_init : AllE (EntOK RJ17 (none) cJ17_init) tJ17_init := (AllE_c ⟨dJ17_init_0, rfl, rfl⟩ trivial)
theorem okJ17_init : TabOK RJ17 (none) cJ17_init tJ17_init := ⟨aJ17_init, by decide +kernel⟩
theorem rpJ3_7_3 : FL RJ3 7 3 0 7 false := ⟨_, _, _, _, cf_3, by decide, rfl, rfl, Or.inl q346, fun h => by cases h⟩
theorem rpJ3_17_3 : FL RJ3 17 3 1 7 false := ⟨_, _, _, _, cf_3, by decide, rfl, rfl, Or.inl q347, fun h => by cases h⟩
theorem rpJ3_24_3 : FL RJ3 24 3 2 7 false := ⟨_, _, _, _, cf_3, by decide, rfl, rfl, Or.inl q348, fun h => by cases h⟩
def tJ3_init : List Ent := [
  (.aload_n 0, 0, 1, [], [], none),
  (.invokespecial 1, 1, 3, [99], [], none),
  (.aload_n 0, 4, 1, [], [], none),
  (.aload_n 0, 5, 1, [], [], none),
  (.putfield 7, 6, 3, [7, 0, 0, 3], [], none),
  (.aload_n 0, 9, 1, [], [], none),
  (.getstatic 13, 10, 3, [2, 0], [], none),
  (.putfield 17, 13, 3, [7, 0, 1, 3], [], none),
  (.aload_n 0, 16, 1, [], [], none),
  (.getstatic 20, 17, 3, [2, 1], [], none),
  (.putfield 24, 20, 3, [7, 0, 2, 3], [], none),
  (.aload_n 0, 23, 1, [], [], none),
  (.invokevirtual 27, 24, 3, [], [], none),
  (.pop, 27, 1, [], [], none),
  (.return_, 28, 1, [], [], none)]
theorem aJ3_init : AllE (EntOK RJ3 (none) cJ3_init) tJ3_init := (AllE_c ⟨dJ3_init_0, trivial, rfl⟩ (AllE_c ⟨dJ3_init_1, ⟨q314, q223, q224⟩, rfl⟩ (AllE_c ⟨dJ3_init_4, trivial, rfl⟩ (AllE_c ⟨dJ3_init_5, trivial, rfl⟩ (AllE_c ⟨dJ3_init_6, ⟨rpJ3_7_3, trivial⟩, rfl⟩ (AllE_c ⟨dJ3_init_9, trivial, rfl⟩ (AllE_c ⟨dJ3_init_10, ⟨_, _, _, statL_0, Or.inl q315⟩, rfl⟩ (AllE_c ⟨dJ3_init_13, ⟨rpJ3_17_3, trivial⟩, rfl⟩ (AllE_c ⟨dJ3_init_16, trivial, rfl⟩ (AllE_c ⟨dJ3_init_17, ⟨_, _, _, statL_1, Or.inl q317⟩, rfl⟩ (AllE_c ⟨dJ3_init_20, ⟨rpJ3_24_3, trivial⟩, rfl⟩ (AllE_c ⟨dJ3_init_23, trivial, rfl⟩ (AllE_c ⟨dJ3_init_24, trivial, rfl⟩ (AllE_c ⟨dJ3_init_27, trivial, rfl⟩ (AllE_c ⟨dJ3_init_28, rfl, rfl⟩ trivial)))))))))))))))
theorem okJ3_init : TabOK RJ3 (none) cJ3_init tJ3_init := ⟨aJ3_init, by decide +kernel⟩
theorem rpJ3_31_3 : FL RJ3 31 3 3 7 false := ⟨_, _, _, _, cf_3, by decide, rfl, rfl, Or.inl q345, fun h => by cases h⟩
def tJ3_init_2 : List Ent := [
  (.aload_n 0, 0, 1, [], [], none),
  (.invokespecial 1, 1, 3, [99], [], none),
  (.aload_n 0, 4, 1, [], [], none),
  (.aload_n 0, 5, 1, [], [], none),
  (.putfield 7, 6, 3, [7, 0, 0, 3], [], none),
  (.aload_n 0, 9, 1, [], [], none),
  (.getstatic 13, 10, 3, [2, 0], [], none),
  (.putfield 17, 13, 3, [7, 0, 1, 3], [], none),
  (.aload_n 0, 16, 1, [], [], none),
  (.getstatic 20, 17, 3, [2, 1], [], none),
  (.putfield 24, 20, 3, [7, 0, 2, 3], [], none),
  (.iload 4, 23, 2, [], [], none),
  (.ifCond .eq 11, 25, 3, [17], [], none),
  (.aload_n 0, 28, 1, [], [], none),
  (.invokevirtual 27, 29, 3, [], [], none),
  (.pop, 32, 1, [], [], none),
  (.goto 8, 33, 3, [20], [], none),
  (.aload_n 0, 36, 1, [], [], none),
  (.aconst_null, 37, 1, [], [], none),
  (.putfield 17, 38, 3, [7, 0, 1, 3], [], none),
  (.aload_n 0, 41, 1, [], [], none),
  (.aload_n 1, 42, 1, [], [], none),
  (.putfield 31, 43, 3, [7, 0, 3, 3], [], none),
  (.aload_n 0, 46, 1, [], [], none),
  (.aload_n 2, 47, 1, [], [], none),
  (.putfield 7, 48, 3, [7, 0, 0, 3], [], none),
  (.iload_n 3, 51, 1, [], [], none),
  (.ifCond .ne 8, 52, 3, [31], [], none),
  (.aload_n 0, 55, 1, [], [], none),
  (.aconst_null, 56, 1, [], [], none),
  (.putfield 24, 57, 3, [7, 0, 2, 3], [], none),
  (.return_, 60, 1, [], [], none)]
theorem aJ3_init_2 : AllE (EntOK RJ3 (none) cJ3_init_2) tJ3_init_2 := (AllE_c ⟨dJ3_init_2_0, trivial, rfl⟩ (AllE_c ⟨dJ3_init_2_1, ⟨q314, q223, q224⟩, rfl⟩ (AllE_c ⟨dJ3_init_2_4, trivial, rfl⟩ (AllE_c ⟨dJ3_init_2_5, trivial, rfl⟩ (AllE_c ⟨dJ3_init_2_6, ⟨rpJ3_7_3, trivial⟩, rfl⟩ (AllE_c ⟨dJ3_init_2_9, trivial, rfl⟩ (AllE_c ⟨dJ3_init_2_10, ⟨_, _, _, statL_0, Or.inl q315⟩, rfl⟩ (AllE_c ⟨dJ3_init_2_13, ⟨rpJ3_17_3, trivial⟩, rfl⟩ (AllE_c ⟨dJ3_init_2_16, trivial, rfl⟩ (AllE_c ⟨dJ3_init_2_17, ⟨_, _, _, statL_1, Or.inl q317⟩, rfl⟩ (AllE_c ⟨dJ3_init_2_20, ⟨rpJ3_24_3, trivial⟩, rfl⟩ (AllE_c ⟨dJ3_init_2_23, trivial, rfl⟩ (AllE_c ⟨dJ3_init_2_25, trivial, rfl⟩ (AllE_c ⟨dJ3_init_2_28, trivial, rfl⟩ (AllE_c ⟨dJ3_init_2_29, trivial, rfl⟩ (AllE_c ⟨dJ3_init_2_32, trivial, rfl⟩ (AllE_c ⟨dJ3_init_2_33, trivial, rfl⟩ (AllE_c ⟨dJ3_init_2_36, trivial, rfl⟩ (AllE_c ⟨dJ3_init_2_37, trivial, rfl⟩ (AllE_c ⟨dJ3_init_2_38, ⟨rpJ3_17_3, trivial⟩, rfl⟩ (AllE_c ⟨dJ3_init_2_41, trivial, rfl⟩ (AllE_c ⟨dJ3_init_2_42, trivial, rfl⟩ (AllE_c ⟨dJ3_init_2_43, ⟨rpJ3_31_3, trivial⟩, rfl⟩ (AllE_c ⟨dJ3_init_2_46, trivial, rfl⟩ (AllE_c ⟨dJ3_init_2_47, trivial, rfl⟩ (AllE_c ⟨dJ3_init_2_48, ⟨rpJ3_7_3, trivial⟩, rfl⟩ (AllE_c ⟨dJ3_init_2_51, trivial, rfl⟩ (AllE_c ⟨dJ3_init_2_52, trivial, rfl⟩ (AllE_c ⟨dJ3_init_2_55, trivial, rfl⟩ (AllE_c ⟨dJ3_init_2_56, trivial, rfl⟩ (AllE_c ⟨dJ3_init_2_57, ⟨rpJ3_24_3, trivial⟩, rfl⟩ (AllE_c ⟨dJ3_init_2_60, rfl, rfl⟩ trivial))))))))))))))))))))))))))))))))
theorem okJ3_init_2 : TabOK RJ3 (none) cJ3_init_2 tJ3_init_2 := ⟨aJ3_init_2, by decide +kernel⟩
def tJ4_init : List Ent := [
  (.aload_n 0, 0, 1, [], [], none),
  (.aload_n 1, 1, 1, [], [], none),
  (.aload_n 2, 2, 1, [], [], none),
  (.iload_n 3, 3, 1, [], [], none),
  (.iload 4, 4, 2, [], [], none),
  (.invokespecial 16, 6, 3, [4, 354], [], none),
  (.return_, 9, 1, [], [], none)]
theorem aJ4_init : AllE (EntOK RJ4 (none) cJ4_init) tJ4_init := (AllE_c ⟨dJ4_init_0, trivial, rfl⟩ (AllE_c ⟨dJ4_init_1, trivial, rfl⟩ (AllE_c ⟨dJ4_init_2, trivial, rfl⟩ (AllE_c ⟨dJ4_init_3, trivial, rfl⟩ (AllE_c ⟨dJ4_init_4, trivial, rfl⟩ (AllE_c ⟨dJ4_init_6, Or.inl ⟨_, _, _, rfl, q339, q183, q337, q338, rfl, ⟨by decide +kernel, by decide +kernel, by decide +kernel⟩, by decide⟩, rfl⟩ (AllE_c ⟨dJ4_init_9, rfl, rfl⟩ trivial)))))))
theorem okJ4_init : TabOK RJ4 (none) cJ4_init tJ4_init := ⟨aJ4_init, by decide +kernel⟩
def tJ5_init : List Ent := [
  (.aload_n 0, 0, 1, [], [], none),
  (.aload_n 1, 1, 1, [], [], none),
  (.aload_n 2, 2, 1, [], [], none),
  (.iload_n 3, 3, 1, [], [], none),
  (.iload 4, 4, 2, [], [], none),
  (.invokespecial 16, 6, 3, [4, 355], [], none),
  (.return_, 9, 1, [], [], none)]
theorem aJ5_init : AllE (EntOK RJ5 (none) cJ5_init) tJ5_init := (AllE_c ⟨dJ5_init_0, trivial, rfl⟩ (AllE_c ⟨dJ5_init_1, trivial, rfl⟩ (AllE_c ⟨dJ5_init_2, trivial, rfl⟩ (AllE_c ⟨dJ5_init_3, trivial, rfl⟩ (AllE_c ⟨dJ5_init_4, trivial, rfl⟩ (AllE_c ⟨dJ5_init_6, Or.inl ⟨_, _, _, rfl, q336, q184, q334, q335, rfl, ⟨by decide +kernel, by decide +kernel, by decide +kernel⟩, by decide⟩, rfl⟩ (AllE_c ⟨dJ5_init_9, rfl, rfl⟩ trivial)))))))
theorem okJ5_init : TabOK RJ5 (none) cJ5_init tJ5_init := ⟨aJ5_init, by decide +kernel⟩
def tJ8_checkFromIndexSize : List Ent := [
  (.iload_n 2, 0, 1, [], [], none),
  (.iload_n 0, 1, 1, [], [], none),
  (.ior, 2, 1, [], [], none),
  (.iload_n 1, 3, 1, [], [], none),
  (.ior, 4, 1, [], [], none),
  (.ifCond .lt 10, 5, 3, [11], [], none),
  (.iload_n 1, 8, 1, [], [], none),
  (.iload_n 2, 9, 1, [], [], none),
  (.iload_n 0, 10, 1, [], [], none),
  (.isub, 11, 1, [], [], none),
  (.if_icmp .le 11, 12, 3, [17], [], none),
  (.aload_n 3, 15, 1, [], [], none),
  (.iload_n 0, 16, 1, [], [], none),
  (.iload_n 1, 17, 1, [], [], none),
  (.iload_n 2, 18, 1, [], [], none),
  (.invokestatic 103, 19, 3, [], [], none),
  (.athrow, 22, 1, [], [], none),
  (.iload_n 0, 23, 1, [], [], none),
  (.ireturn, 24, 1, [5], [], none)]
theorem aJ8_checkFromIndexSize : AllE (EntOK RJ8 (Option.some Jvm.ClassFile.FieldType.int) cJ8_checkFromIndexSize) tJ8_checkFromIndexSize := (AllE_c ⟨dJ8_checkFromIndexSize_0, trivial, rfl⟩ (AllE_c ⟨dJ8_checkFromIndexSize_1, trivial, rfl⟩ (AllE_c ⟨dJ8_checkFromIndexSize_2, trivial, rfl⟩ (AllE_c ⟨dJ8_checkFromIndexSize_3, trivial, rfl⟩ (AllE_c ⟨dJ8_checkFromIndexSize_4, trivial, rfl⟩ (AllE_c ⟨dJ8_checkFromIndexSize_5, trivial, rfl⟩ (AllE_c ⟨dJ8_checkFromIndexSize_8, trivial, rfl⟩ (AllE_c ⟨dJ8_checkFromIndexSize_9, trivial, rfl⟩ (AllE_c ⟨dJ8_checkFromIndexSize_10, trivial, rfl⟩ (AllE_c ⟨dJ8_checkFromIndexSize_11, trivial, rfl⟩ (AllE_c ⟨dJ8_checkFromIndexSize_12, trivial, rfl⟩ (AllE_c ⟨dJ8_checkFromIndexSize_15, trivial, rfl⟩ (AllE_c ⟨dJ8_checkFromIndexSize_16, trivial, rfl⟩ (AllE_c ⟨dJ8_checkFromIndexSize_17, trivial, rfl⟩ (AllE_c ⟨dJ8_checkFromIndexSize_18, trivial, rfl⟩ (AllE_c ⟨dJ8_checkFromIndexSize_19, trivial, rfl⟩ (AllE_c ⟨dJ8_checkFromIndexSize_22, trivial, rfl⟩ (AllE_c ⟨dJ8_checkFromIndexSize_23, trivial, rfl⟩ (AllE_c ⟨dJ8_checkFromIndexSize_24, rfl, rfl⟩ trivial)))))))))))))))))))
theorem okJ8_checkFromIndexSize : TabOK RJ8 (Option.some Jvm.ClassFile.FieldType.int) cJ8_checkFromIndexSize tJ8_checkFromIndexSize := ⟨aJ8_checkFromIndexSize, by decide +kernel⟩
def tJ8_checkIndex : List Ent := [
  (.iload_n 0, 0, 1, [], [], none),
  (.ifCond .lt 8, 1, 3, [5], [], none),
  (.iload_n 0, 4, 1, [], [], none),
  (.iload_n 1, 5, 1, [], [], none),
  (.if_icmp .lt 10, 6, 3, [10], [], none),
  (.aload_n 2, 9, 1, [], [], none),
  (.iload_n 0, 10, 1, [], [], none),
  (.iload_n 1, 11, 1, [], [], none),
  (.invokestatic 95, 12, 3, [], [], none),
  (.athrow, 15, 1, [], [], none),
  (.iload_n 0, 16, 1, [], [], none),
  (.ireturn, 17, 1, [5], [], none)]
theorem aJ8_checkIndex : AllE (EntOK RJ8 (Option.some Jvm.ClassFile.FieldType.int) cJ8_checkIndex) tJ8_checkIndex := (AllE_c ⟨dJ8_checkIndex_0, trivial, rfl⟩ (AllE_c ⟨dJ8_checkIndex_1, trivial, rfl⟩ (AllE_c ⟨dJ8_checkIndex_4, trivial, rfl⟩ (AllE_c ⟨dJ8_checkIndex_5, trivial, rfl⟩ (AllE_c ⟨dJ8_checkIndex_6, trivial, rfl⟩ (AllE_c ⟨dJ8_checkIndex_9, trivial, rfl⟩ (AllE_c ⟨dJ8_checkIndex_10, trivial, rfl⟩ (AllE_c ⟨dJ8_checkIndex_11, trivial, rfl⟩ (AllE_c ⟨dJ8_checkIndex_12, trivial, rfl⟩ (AllE_c ⟨dJ8_checkIndex_15, trivial, rfl⟩ (AllE_c ⟨dJ8_checkIndex_16, trivial, rfl⟩ (AllE_c ⟨dJ8_checkIndex_17, rfl, rfl⟩ trivial))))))))))))
theorem okJ8_checkIndex : TabOK RJ8 (Option.some Jvm.ClassFile.FieldType.int) cJ8_checkIndex tJ8_checkIndex := ⟨aJ8_checkIndex, by decide +kernel⟩
def tJ9_hashCode : List Ent := [
  (.aload_n 0, 0, 1, [], [], none),
  (.arraylength, 1, 1, [], [], none),
  (.lookupswitch 40 #[(0, 26), (1, 30)], 2, 26, [11, 3, 5], [], none),
  (.iconst 0, 28, 1, [0, 0], [], none),
  (.goto 22, 29, 3, [18], [], none),
  (.aload_n 0, 32, 1, [], [], none),
  (.iconst 0, 33, 1, [0, 0], [], none),
  (.baload, 34, 1, [], [], none),
  (.sipush 255, 35, 3, [0, 255], [], none),
  (.iand, 38, 1, [], [], none),
  (.goto 12, 39, 3, [18], [], none),
  (.aload_n 0, 42, 1, [], [], none),
  (.iconst 0, 43, 1, [0, 0], [], none),
  (.aload_n 0, 44, 1, [], [], none),
  (.arraylength, 45, 1, [], [], none),
  (.iconst 0, 46, 1, [0, 0], [], none),
  (.iconst 4, 47, 1, [0, 4], [], none),
  (.invokestatic 84, 48, 3, [5, 324], [], none),
  (.ireturn, 51, 1, [5], [], none)]
theorem aJ9_hashCode : AllE (EntOK RJ9 (Option.some Jvm.ClassFile.FieldType.int) cJ9_hashCode) tJ9_hashCode := (AllE_c ⟨dJ9_hashCode_0, trivial, rfl⟩ (AllE_c ⟨dJ9_hashCode_1, trivial, rfl⟩ (AllE_c ⟨dJ9_hashCode_2, trivial, rfl⟩ (AllE_c ⟨dJ9_hashCode_28, trivial, rfl⟩ (AllE_c ⟨dJ9_hashCode_29, trivial, rfl⟩ (AllE_c ⟨dJ9_hashCode_32, trivial, rfl⟩ (AllE_c ⟨dJ9_hashCode_33, trivial, rfl⟩ (AllE_c ⟨dJ9_hashCode_34, trivial, rfl⟩ (AllE_c ⟨dJ9_hashCode_35, trivial, rfl⟩ (AllE_c ⟨dJ9_hashCode_38, trivial, rfl⟩ (AllE_c ⟨dJ9_hashCode_39, trivial, rfl⟩ (AllE_c ⟨dJ9_hashCode_42, trivial, rfl⟩ (AllE_c ⟨dJ9_hashCode_43, trivial, rfl⟩ (AllE_c ⟨dJ9_hashCode_44, trivial, rfl⟩ (AllE_c ⟨dJ9_hashCode_45, trivial, rfl⟩ (AllE_c ⟨dJ9_hashCode_46, trivial, rfl⟩ (AllE_c ⟨dJ9_hashCode_47, trivial, rfl⟩ (AllE_c ⟨dJ9_hashCode_48, Or.inl ⟨_, _, _, _, rfl, lw_S q697 q698 q194 q699, ⟨by decide +kernel, by decide +kernel, by decide +kernel⟩, by decide⟩, rfl⟩ (AllE_c ⟨dJ9_hashCode_51, rfl, rfl⟩ trivial)))))))))))))))))))
theorem okJ9_hashCode : TabOK RJ9 (Option.some Jvm.ClassFile.FieldType.int) cJ9_hashCode tJ9_hashCode := ⟨aJ9_hashCode, by decide +kernel⟩
def tJ9_equals : List Ent := [
  (.aload_n 0, 0, 1, [], [], none),
  (.arraylength, 1, 1, [], [], none),
  (.aload_n 1, 2, 1, [], [], none),
  (.arraylength, 3, 1, [], [], none),
  (.if_icmp .ne 30, 4, 3, [24], [], none),
  (.iconst 0, 7, 1, [0, 0], [], none),
  (.istore_n 2, 8, 1, [], [], none),
  (.iload_n 2, 9, 1, [], [], none),
  (.aload_n 0, 10, 1, [], [], none),
  (.arraylength, 11, 1, [], [], none),
  (.if_icmp .ge 20, 12, 3, [22], [], none),
  (.aload_n 0, 15, 1, [], [], none),
  (.iload_n 2, 16, 1, [], [], none),
  (.baload, 17, 1, [], [], none),
  (.aload_n 1, 18, 1, [], [], none),
  (.iload_n 2, 19, 1, [], [], none),
  (.baload, 20, 1, [], [], none),
  (.if_icmp .eq 5, 21, 3, [20], [], none),
  (.iconst 0, 24, 1, [0, 0], [], none),
  (.ireturn, 25, 1, [1], [], none),
  (.iinc 2 1, 26, 3, [0, 1], [], none),
  (.goto (-20), 29, 3, [7], [], none),
  (.iconst 1, 32, 1, [0, 1], [], none),
  (.ireturn, 33, 1, [1], [], none),
  (.iconst 0, 34, 1, [0, 0], [], none),
  (.ireturn, 35, 1, [1], [], none)]
theorem aJ9_equals : AllE (EntOK RJ9 (Option.some Jvm.ClassFile.FieldType.boolean) cJ9_equals) tJ9_equals := (AllE_c ⟨dJ9_equals_0, trivial, rfl⟩ (AllE_c ⟨dJ9_equals_1, trivial, rfl⟩ (AllE_c ⟨dJ9_equals_2, trivial, rfl⟩ (AllE_c ⟨dJ9_equals_3, trivial, rfl⟩ (AllE_c ⟨dJ9_equals_4, trivial, rfl⟩ (AllE_c ⟨dJ9_equals_7, trivial, rfl⟩ (AllE_c ⟨dJ9_equals_8, trivial, rfl⟩ (AllE_c ⟨dJ9_equals_9, trivial, rfl⟩ (AllE_c ⟨dJ9_equals_10, trivial, rfl⟩ (AllE_c ⟨dJ9_equals_11, trivial, rfl⟩ (AllE_c ⟨dJ9_equals_12, trivial, rfl⟩ (AllE_c ⟨dJ9_equals_15, trivial, rfl⟩ (AllE_c ⟨dJ9_equals_16, trivial, rfl⟩ (AllE_c ⟨dJ9_equals_17, trivial, rfl⟩ (AllE_c ⟨dJ9_equals_18, trivial, rfl⟩ (AllE_c ⟨dJ9_equals_19, trivial, rfl⟩ (AllE_c ⟨dJ9_equals_20, trivial, rfl⟩ (AllE_c ⟨dJ9_equals_21, trivial, rfl⟩ (AllE_c ⟨dJ9_equals_24, trivial, rfl⟩ (AllE_c ⟨dJ9_equals_25, rfl, rfl⟩ (AllE_c ⟨dJ9_equals_26, trivial, rfl⟩ (AllE_c ⟨dJ9_equals_29, trivial, rfl⟩ (AllE_c ⟨dJ9_equals_32, trivial, rfl⟩ (AllE_c ⟨dJ9_equals_33, rfl, rfl⟩ (AllE_c ⟨dJ9_equals_34, trivial, rfl⟩ (AllE_c ⟨dJ9_equals_35, rfl, rfl⟩ trivial))))))))))))))))))))))))))
theorem okJ9_equals : TabOK RJ9 (Option.some Jvm.ClassFile.FieldType.boolean) cJ9_equals tJ9_equals := ⟨aJ9_equals, by decide +kernel⟩
def tJ9_canEncode : List Ent := [
  (.iload_n 0, 0, 1, [], [], none),
  (.sipush 255, 1, 3, [0, 255], [], none),
  (.if_icmp .gt 7, 4, 3, [5], [], none),
  (.iconst 1, 7, 1, [0, 1], [], none),
  (.goto 4, 8, 3, [6], [], none),
  (.iconst 0, 11, 1, [0, 0], [], none),
  (.ireturn, 12, 1, [1], [], none)]
theorem aJ9_canEncode : AllE (EntOK RJ9 (Option.some Jvm.ClassFile.FieldType.boolean) cJ9_canEncode) tJ9_canEncode := (AllE_c ⟨dJ9_canEncode_0, trivial, rfl⟩ (AllE_c ⟨dJ9_canEncode_1, trivial, rfl⟩ (AllE_c ⟨dJ9_canEncode_4, trivial, rfl⟩ (AllE_c ⟨dJ9_canEncode_7, trivial, rfl⟩ (AllE_c ⟨dJ9_canEncode_8, trivial, rfl⟩ (AllE_c ⟨dJ9_canEncode_11, trivial, rfl⟩ (AllE_c ⟨dJ9_canEncode_12, rfl, rfl⟩ trivial)))))))
theorem okJ9_canEncode : TabOK RJ9 (Option.some Jvm.ClassFile.FieldType.boolean) cJ9_canEncode tJ9_canEncode := ⟨aJ9_canEncode, by decide +kernel⟩
def tJ9_inflate : List Ent := [
  (.aload_n 0, 0, 1, [], [], none),
  (.iload_n 1, 1, 1, [], [], none),
  (.aload_n 2, 2, 1, [], [], none),
  (.iload_n 3, 3, 1, [], [], none),
  (.iload 4, 4, 2, [], [], none),
  (.invokestatic 240, 6, 3, [5, 369], [], none),
  (.return_, 9, 1, [], [], none)]
theorem aJ9_inflate : AllE (EntOK RJ9 (none) cJ9_inflate) tJ9_inflate := (AllE_c ⟨dJ9_inflate_0, trivial, rfl⟩ (AllE_c ⟨dJ9_inflate_1, trivial, rfl⟩ (AllE_c ⟨dJ9_inflate_2, trivial, rfl⟩ (AllE_c ⟨dJ9_inflate_3, trivial, rfl⟩ (AllE_c ⟨dJ9_inflate_4, trivial, rfl⟩ (AllE_c ⟨dJ9_inflate_6, Or.inl ⟨_, _, _, _, rfl, lw_S q1102 q1103 q191 q1104, ⟨by decide +kernel, by decide +kernel, by decide +kernel⟩, by decide⟩, rfl⟩ (AllE_c ⟨dJ9_inflate_9, rfl, rfl⟩ trivial)))))))
theorem okJ9_inflate : TabOK RJ9 (none) cJ9_inflate tJ9_inflate := ⟨aJ9_inflate, by decide +kernel⟩
def tJ9_charAt : List Ent := [
  (.iload_n 1, 0, 1, [], [], none),
  (.aload_n 0, 1, 1, [], [], none),
  (.arraylength, 2, 1, [], [], none),
  (.invokestatic 9, 3, 3, [2, 320], [], none),
  (.aload_n 0, 6, 1, [], [], none),
  (.iload_n 1, 7, 1, [], [], none),
  (.baload, 8, 1, [], [], none),
  (.sipush 255, 9, 3, [0, 255], [], none),
  (.iand, 12, 1, [], [], none),
  (.i2c, 13, 1, [], [], none),
  (.ireturn, 14, 1, [3], [], none)]
theorem aJ9_charAt : AllE (EntOK RJ9 (Option.some Jvm.ClassFile.FieldType.char) cJ9_charAt) tJ9_charAt := (AllE_c ⟨dJ9_charAt_0, trivial, rfl⟩ (AllE_c ⟨dJ9_charAt_1, trivial, rfl⟩ (AllE_c ⟨dJ9_charAt_2, trivial, rfl⟩ (AllE_c ⟨dJ9_charAt_3, Or.inl ⟨_, _, _, _, rfl, lw_S q1355 q1112 q190 q1113, ⟨by decide +kernel, by decide +kernel, by decide +kernel⟩, by decide⟩, rfl⟩ (AllE_c ⟨dJ9_charAt_6, trivial, rfl⟩ (AllE_c ⟨dJ9_charAt_7, trivial, rfl⟩ (AllE_c ⟨dJ9_charAt_8, trivial, rfl⟩ (AllE_c ⟨dJ9_charAt_9, trivial, rfl⟩ (AllE_c ⟨dJ9_charAt_12, trivial, rfl⟩ (AllE_c ⟨dJ9_charAt_13, trivial, rfl⟩ (AllE_c ⟨dJ9_charAt_14, rfl, rfl⟩ trivial)))))))))))
theorem okJ9_charAt : TabOK RJ9 (Option.some Jvm.ClassFile.FieldType.char) cJ9_charAt tJ9_charAt := ⟨aJ9_charAt, by decide +kernel⟩
