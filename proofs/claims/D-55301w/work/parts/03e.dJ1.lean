set_option maxRecDepth 100000
abbrev cJ0_init : ByteArray := prog_50_method_1_code
def yJ0_init : MethodName := ⟨RJ0, "<init>", "()V"⟩
theorem dJ0_init_0 : decode cJ0_init 0 = .ok (.aload_n 0, 1) := by decide +kernel
theorem dJ0_init_1 : decode cJ0_init 1 = .ok (.invokespecial 1, 3) := by decide +kernel
theorem dJ0_init_4 : decode cJ0_init 4 = .ok (.return_, 1) := by decide +kernel
abbrev cJ0_putAll : ByteArray := prog_50_method_9_code
def yJ0_putAll : MethodName := ⟨RJ0, "putAll", "(Ljava/util/Map;)V"⟩
def dkwJ0_putAll_2 : List UInt8 := [182, 0, 55, 87, 167, 255, 220, 177]
abbrev dktJ0_putAll_2 : List UInt8 := dkwJ0_putAll_2 ++ []
def dkwJ0_putAll_1 : List UInt8 := [185, 0, 30, 1, 0, 192, 0, 34, 78, 42, 45, 185, 0, 43, 1, 0, 45, 185, 0, 36, 1, 0]
abbrev dktJ0_putAll_1 : List UInt8 := dkwJ0_putAll_1 ++ dktJ0_putAll_2
def dkwJ0_putAll_0 : List UInt8 := [43, 185, 0, 52, 1, 0, 185, 0, 20, 1, 0, 77, 44, 185, 0, 24, 1, 0, 153, 0, 33, 44]
abbrev dktJ0_putAll_0 : List UInt8 := dkwJ0_putAll_0 ++ dktJ0_putAll_1
theorem dksJ0_putAll_0 : cJ0_putAll.data.toList.drop 0 = dktJ0_putAll_0 := by decide +kernel
theorem dksJ0_putAll_1 : cJ0_putAll.data.toList.drop 22 = dktJ0_putAll_1 := dk_seg dksJ0_putAll_0 22 rfl rfl
theorem dksJ0_putAll_2 : cJ0_putAll.data.toList.drop 44 = dktJ0_putAll_2 := dk_seg dksJ0_putAll_1 22 rfl rfl
theorem dJ0_putAll_0 : decode cJ0_putAll 0 = .ok (.aload_n 1, 1) := dk_43 (dk_at dksJ0_putAll_0 0 rfl rfl)
theorem dJ0_putAll_1 : decode cJ0_putAll 1 = .ok (.invokeinterface 52 1, 5) := by decide +kernel
theorem dJ0_putAll_6 : decode cJ0_putAll 6 = .ok (.invokeinterface 20 1, 5) := by decide +kernel
theorem dJ0_putAll_11 : decode cJ0_putAll 11 = .ok (.astore_n 2, 1) := dk_77 (dk_at dksJ0_putAll_0 11 rfl rfl)
theorem dJ0_putAll_12 : decode cJ0_putAll 12 = .ok (.aload_n 2, 1) := dk_44 (dk_at dksJ0_putAll_0 12 rfl rfl)
theorem dJ0_putAll_13 : decode cJ0_putAll 13 = .ok (.invokeinterface 24 1, 5) := by decide +kernel
theorem dJ0_putAll_18 : decode cJ0_putAll 18 = .ok (.ifCond .eq 33, 3) := dk_153 0 33 (dk_at dksJ0_putAll_0 18 rfl rfl)
theorem dJ0_putAll_21 : decode cJ0_putAll 21 = .ok (.aload_n 2, 1) := dk_44 (dk_at dksJ0_putAll_0 21 rfl rfl)
theorem dJ0_putAll_22 : decode cJ0_putAll 22 = .ok (.invokeinterface 30 1, 5) := by decide +kernel
theorem dJ0_putAll_27 : decode cJ0_putAll 27 = .ok (.checkcast 34, 3) := dk_192 0 34 (dk_at dksJ0_putAll_1 5 rfl rfl)
theorem dJ0_putAll_30 : decode cJ0_putAll 30 = .ok (.astore_n 3, 1) := dk_78 (dk_at dksJ0_putAll_1 8 rfl rfl)
theorem dJ0_putAll_31 : decode cJ0_putAll 31 = .ok (.aload_n 0, 1) := dk_42 (dk_at dksJ0_putAll_1 9 rfl rfl)
theorem dJ0_putAll_32 : decode cJ0_putAll 32 = .ok (.aload_n 3, 1) := dk_45 (dk_at dksJ0_putAll_1 10 rfl rfl)
theorem dJ0_putAll_33 : decode cJ0_putAll 33 = .ok (.invokeinterface 43 1, 5) := by decide +kernel
theorem dJ0_putAll_38 : decode cJ0_putAll 38 = .ok (.aload_n 3, 1) := dk_45 (dk_at dksJ0_putAll_1 16 rfl rfl)
theorem dJ0_putAll_39 : decode cJ0_putAll 39 = .ok (.invokeinterface 36 1, 5) := by decide +kernel
theorem dJ0_putAll_44 : decode cJ0_putAll 44 = .ok (.invokevirtual 55, 3) := dk_182 0 55 (dk_at dksJ0_putAll_2 0 rfl rfl)
theorem dJ0_putAll_47 : decode cJ0_putAll 47 = .ok (.pop, 1) := dk_87 (dk_at dksJ0_putAll_2 3 rfl rfl)
theorem dJ0_putAll_48 : decode cJ0_putAll 48 = .ok (.goto (-36), 3) := dk_167 255 220 (dk_at dksJ0_putAll_2 4 rfl rfl)
theorem dJ0_putAll_51 : decode cJ0_putAll 51 = .ok (.return_, 1) := dk_177 (dk_at dksJ0_putAll_2 7 rfl rfl)
abbrev cJ1_init : ByteArray := prog_82_method_1_code
def yJ1_init : MethodName := ⟨RJ1, "<init>", "()V"⟩
def dkwJ1_init_0 : List UInt8 := [42, 183, 0, 1, 42, 3, 181, 0, 7, 42, 3, 181, 0, 13, 42, 1, 181, 0, 16, 177]
abbrev dktJ1_init_0 : List UInt8 := dkwJ1_init_0 ++ []
theorem dksJ1_init_0 : cJ1_init.data.toList.drop 0 = dktJ1_init_0 := by decide +kernel
theorem dJ1_init_0 : decode cJ1_init 0 = .ok (.aload_n 0, 1) := dk_42 (dk_at dksJ1_init_0 0 rfl rfl)
theorem dJ1_init_1 : decode cJ1_init 1 = .ok (.invokespecial 1, 3) := dk_183 0 1 (dk_at dksJ1_init_0 1 rfl rfl)
theorem dJ1_init_4 : decode cJ1_init 4 = .ok (.aload_n 0, 1) := dk_42 (dk_at dksJ1_init_0 4 rfl rfl)
theorem dJ1_init_5 : decode cJ1_init 5 = .ok (.iconst 0, 1) := dk_3 (dk_at dksJ1_init_0 5 rfl rfl)
theorem dJ1_init_6 : decode cJ1_init 6 = .ok (.putfield 7, 3) := dk_181 0 7 (dk_at dksJ1_init_0 6 rfl rfl)
theorem dJ1_init_9 : decode cJ1_init 9 = .ok (.aload_n 0, 1) := dk_42 (dk_at dksJ1_init_0 9 rfl rfl)
theorem dJ1_init_10 : decode cJ1_init 10 = .ok (.iconst 0, 1) := dk_3 (dk_at dksJ1_init_0 10 rfl rfl)
theorem dJ1_init_11 : decode cJ1_init 11 = .ok (.putfield 13, 3) := dk_181 0 13 (dk_at dksJ1_init_0 11 rfl rfl)
theorem dJ1_init_14 : decode cJ1_init 14 = .ok (.aload_n 0, 1) := dk_42 (dk_at dksJ1_init_0 14 rfl rfl)
theorem dJ1_init_15 : decode cJ1_init 15 = .ok (.aconst_null, 1) := dk_1 (dk_at dksJ1_init_0 15 rfl rfl)
theorem dJ1_init_16 : decode cJ1_init 16 = .ok (.putfield 16, 3) := dk_181 0 16 (dk_at dksJ1_init_0 16 rfl rfl)
theorem dJ1_init_19 : decode cJ1_init 19 = .ok (.return_, 1) := dk_177 (dk_at dksJ1_init_0 19 rfl rfl)
abbrev cJ1_putAll : ByteArray := prog_82_method_14_code
def yJ1_putAll : MethodName := ⟨RJ1, "putAll", "(Ljava/util/Map;)V"⟩
def dkwJ1_putAll_3 : List UInt8 := [182, 0, 42, 167, 0, 4, 78, 177, 42, 43, 183, 0, 91, 177]
abbrev dktJ1_putAll_3 : List UInt8 := dkwJ1_putAll_3 ++ []
def dkwJ1_putAll_2 : List UInt8 := [180, 0, 13, 4, 96, 181, 0, 13, 42, 28, 43, 185, 0, 90, 1, 0, 185, 0, 36, 1, 0, 1, 1]
abbrev dktJ1_putAll_2 : List UInt8 := dkwJ1_putAll_2 ++ dktJ1_putAll_3
def dkwJ1_putAll_1 : List UInt8 := [153, 0, 55, 42, 180, 0, 16, 43, 192, 0, 25, 185, 0, 24, 1, 0, 184, 0, 85, 153, 0, 36, 42, 89]
abbrev dktJ1_putAll_1 : List UInt8 := dkwJ1_putAll_1 ++ dktJ1_putAll_2
def dkwJ1_putAll_0 : List UInt8 := [43, 185, 0, 82, 1, 0, 61, 42, 180, 0, 7, 154, 0, 66, 28, 153, 0, 62, 43, 193, 0, 25]
abbrev dktJ1_putAll_0 : List UInt8 := dkwJ1_putAll_0 ++ dktJ1_putAll_1
theorem dksJ1_putAll_0 : cJ1_putAll.data.toList.drop 0 = dktJ1_putAll_0 := by decide +kernel
theorem dksJ1_putAll_1 : cJ1_putAll.data.toList.drop 22 = dktJ1_putAll_1 := dk_seg dksJ1_putAll_0 22 rfl rfl
theorem dksJ1_putAll_2 : cJ1_putAll.data.toList.drop 46 = dktJ1_putAll_2 := dk_seg dksJ1_putAll_1 24 rfl rfl
theorem dksJ1_putAll_3 : cJ1_putAll.data.toList.drop 69 = dktJ1_putAll_3 := dk_seg dksJ1_putAll_2 23 rfl rfl
theorem dJ1_putAll_0 : decode cJ1_putAll 0 = .ok (.aload_n 1, 1) := dk_43 (dk_at dksJ1_putAll_0 0 rfl rfl)
theorem dJ1_putAll_1 : decode cJ1_putAll 1 = .ok (.invokeinterface 82 1, 5) := by decide +kernel
theorem dJ1_putAll_6 : decode cJ1_putAll 6 = .ok (.istore_n 2, 1) := dk_61 (dk_at dksJ1_putAll_0 6 rfl rfl)
theorem dJ1_putAll_7 : decode cJ1_putAll 7 = .ok (.aload_n 0, 1) := dk_42 (dk_at dksJ1_putAll_0 7 rfl rfl)
theorem dJ1_putAll_8 : decode cJ1_putAll 8 = .ok (.getfield 7, 3) := dk_180 0 7 (dk_at dksJ1_putAll_0 8 rfl rfl)
theorem dJ1_putAll_11 : decode cJ1_putAll 11 = .ok (.ifCond .ne 66, 3) := dk_154 0 66 (dk_at dksJ1_putAll_0 11 rfl rfl)
theorem dJ1_putAll_14 : decode cJ1_putAll 14 = .ok (.iload_n 2, 1) := dk_28 (dk_at dksJ1_putAll_0 14 rfl rfl)
theorem dJ1_putAll_15 : decode cJ1_putAll 15 = .ok (.ifCond .eq 62, 3) := dk_153 0 62 (dk_at dksJ1_putAll_0 15 rfl rfl)
theorem dJ1_putAll_18 : decode cJ1_putAll 18 = .ok (.aload_n 1, 1) := dk_43 (dk_at dksJ1_putAll_0 18 rfl rfl)
theorem dJ1_putAll_19 : decode cJ1_putAll 19 = .ok (.instanceof 25, 3) := dk_193 0 25 (dk_at dksJ1_putAll_0 19 rfl rfl)
theorem dJ1_putAll_22 : decode cJ1_putAll 22 = .ok (.ifCond .eq 55, 3) := dk_153 0 55 (dk_at dksJ1_putAll_1 0 rfl rfl)
theorem dJ1_putAll_25 : decode cJ1_putAll 25 = .ok (.aload_n 0, 1) := dk_42 (dk_at dksJ1_putAll_1 3 rfl rfl)
theorem dJ1_putAll_26 : decode cJ1_putAll 26 = .ok (.getfield 16, 3) := dk_180 0 16 (dk_at dksJ1_putAll_1 4 rfl rfl)
theorem dJ1_putAll_29 : decode cJ1_putAll 29 = .ok (.aload_n 1, 1) := dk_43 (dk_at dksJ1_putAll_1 7 rfl rfl)
theorem dJ1_putAll_30 : decode cJ1_putAll 30 = .ok (.checkcast 25, 3) := dk_192 0 25 (dk_at dksJ1_putAll_1 8 rfl rfl)
theorem dJ1_putAll_33 : decode cJ1_putAll 33 = .ok (.invokeinterface 24 1, 5) := by decide +kernel
theorem dJ1_putAll_38 : decode cJ1_putAll 38 = .ok (.invokestatic 85, 3) := dk_184 0 85 (dk_at dksJ1_putAll_1 16 rfl rfl)
theorem dJ1_putAll_41 : decode cJ1_putAll 41 = .ok (.ifCond .eq 36, 3) := dk_153 0 36 (dk_at dksJ1_putAll_1 19 rfl rfl)
theorem dJ1_putAll_44 : decode cJ1_putAll 44 = .ok (.aload_n 0, 1) := dk_42 (dk_at dksJ1_putAll_1 22 rfl rfl)
theorem dJ1_putAll_45 : decode cJ1_putAll 45 = .ok (.dup, 1) := dk_89 (dk_at dksJ1_putAll_1 23 rfl rfl)
theorem dJ1_putAll_46 : decode cJ1_putAll 46 = .ok (.getfield 13, 3) := dk_180 0 13 (dk_at dksJ1_putAll_2 0 rfl rfl)
theorem dJ1_putAll_49 : decode cJ1_putAll 49 = .ok (.iconst 1, 1) := dk_4 (dk_at dksJ1_putAll_2 3 rfl rfl)
theorem dJ1_putAll_50 : decode cJ1_putAll 50 = .ok (.iadd, 1) := dk_96 (dk_at dksJ1_putAll_2 4 rfl rfl)
theorem dJ1_putAll_51 : decode cJ1_putAll 51 = .ok (.putfield 13, 3) := dk_181 0 13 (dk_at dksJ1_putAll_2 5 rfl rfl)
theorem dJ1_putAll_54 : decode cJ1_putAll 54 = .ok (.aload_n 0, 1) := dk_42 (dk_at dksJ1_putAll_2 8 rfl rfl)
theorem dJ1_putAll_55 : decode cJ1_putAll 55 = .ok (.iload_n 2, 1) := dk_28 (dk_at dksJ1_putAll_2 9 rfl rfl)
theorem dJ1_putAll_56 : decode cJ1_putAll 56 = .ok (.aload_n 1, 1) := dk_43 (dk_at dksJ1_putAll_2 10 rfl rfl)
theorem dJ1_putAll_57 : decode cJ1_putAll 57 = .ok (.invokeinterface 90 1, 5) := by decide +kernel
theorem dJ1_putAll_62 : decode cJ1_putAll 62 = .ok (.invokeinterface 36 1, 5) := by decide +kernel
theorem dJ1_putAll_67 : decode cJ1_putAll 67 = .ok (.aconst_null, 1) := dk_1 (dk_at dksJ1_putAll_2 21 rfl rfl)
theorem dJ1_putAll_68 : decode cJ1_putAll 68 = .ok (.aconst_null, 1) := dk_1 (dk_at dksJ1_putAll_2 22 rfl rfl)
theorem dJ1_putAll_69 : decode cJ1_putAll 69 = .ok (.invokevirtual 42, 3) := dk_182 0 42 (dk_at dksJ1_putAll_3 0 rfl rfl)
theorem dJ1_putAll_72 : decode cJ1_putAll 72 = .ok (.goto 4, 3) := dk_167 0 4 (dk_at dksJ1_putAll_3 3 rfl rfl)
theorem dJ1_putAll_75 : decode cJ1_putAll 75 = .ok (.astore_n 3, 1) := dk_78 (dk_at dksJ1_putAll_3 6 rfl rfl)
theorem dJ1_putAll_76 : decode cJ1_putAll 76 = .ok (.return_, 1) := dk_177 (dk_at dksJ1_putAll_3 7 rfl rfl)
theorem dJ1_putAll_77 : decode cJ1_putAll 77 = .ok (.aload_n 0, 1) := dk_42 (dk_at dksJ1_putAll_3 8 rfl rfl)
theorem dJ1_putAll_78 : decode cJ1_putAll 78 = .ok (.aload_n 1, 1) := dk_43 (dk_at dksJ1_putAll_3 9 rfl rfl)
theorem dJ1_putAll_79 : decode cJ1_putAll 79 = .ok (.invokespecial 91, 3) := dk_183 0 91 (dk_at dksJ1_putAll_3 10 rfl rfl)
theorem dJ1_putAll_82 : decode cJ1_putAll 82 = .ok (.return_, 1) := dk_177 (dk_at dksJ1_putAll_3 13 rfl rfl)
abbrev cJ1_size : ByteArray := prog_82_method_5_code
def yJ1_size : MethodName := ⟨RJ1, "size", "()I"⟩
theorem dJ1_size_0 : decode cJ1_size 0 = .ok (.aload_n 0, 1) := by decide +kernel
theorem dJ1_size_1 : decode cJ1_size 1 = .ok (.getfield 7, 3) := by decide +kernel
theorem dJ1_size_4 : decode cJ1_size 4 = .ok (.ireturn, 1) := by decide +kernel
abbrev cJ1_comparator : ByteArray := prog_82_method_9_code
def yJ1_comparator : MethodName := ⟨RJ1, "comparator", "()Ljava/util/Comparator;"⟩
theorem dJ1_comparator_0 : decode cJ1_comparator 0 = .ok (.aload_n 0, 1) := by decide +kernel
theorem dJ1_comparator_1 : decode cJ1_comparator 1 = .ok (.getfield 16, 3) := by decide +kernel
theorem dJ1_comparator_4 : decode cJ1_comparator 4 = .ok (.areturn, 1) := by decide +kernel
abbrev cJ1_entrySet : ByteArray := prog_82_method_53_code
def yJ1_entrySet : MethodName := ⟨RJ1, "entrySet", "()Ljava/util/Set;"⟩
def dkwJ1_entrySet_1 : List UInt8 := [181, 0, 188, 176]
abbrev dktJ1_entrySet_1 : List UInt8 := dkwJ1_entrySet_1 ++ []
def dkwJ1_entrySet_0 : List UInt8 := [42, 180, 0, 188, 76, 43, 198, 0, 7, 43, 167, 0, 16, 42, 187, 0, 242, 89, 42, 183, 0, 244, 90]
abbrev dktJ1_entrySet_0 : List UInt8 := dkwJ1_entrySet_0 ++ dktJ1_entrySet_1
theorem dksJ1_entrySet_0 : cJ1_entrySet.data.toList.drop 0 = dktJ1_entrySet_0 := by decide +kernel
theorem dksJ1_entrySet_1 : cJ1_entrySet.data.toList.drop 23 = dktJ1_entrySet_1 := dk_seg dksJ1_entrySet_0 23 rfl rfl
theorem dJ1_entrySet_0 : decode cJ1_entrySet 0 = .ok (.aload_n 0, 1) := dk_42 (dk_at dksJ1_entrySet_0 0 rfl rfl)
theorem dJ1_entrySet_1 : decode cJ1_entrySet 1 = .ok (.getfield 188, 3) := dk_180 0 188 (dk_at dksJ1_entrySet_0 1 rfl rfl)
theorem dJ1_entrySet_4 : decode cJ1_entrySet 4 = .ok (.astore_n 1, 1) := dk_76 (dk_at dksJ1_entrySet_0 4 rfl rfl)
theorem dJ1_entrySet_5 : decode cJ1_entrySet 5 = .ok (.aload_n 1, 1) := dk_43 (dk_at dksJ1_entrySet_0 5 rfl rfl)
theorem dJ1_entrySet_6 : decode cJ1_entrySet 6 = .ok (.ifnull 7, 3) := dk_198 0 7 (dk_at dksJ1_entrySet_0 6 rfl rfl)
theorem dJ1_entrySet_9 : decode cJ1_entrySet 9 = .ok (.aload_n 1, 1) := dk_43 (dk_at dksJ1_entrySet_0 9 rfl rfl)
theorem dJ1_entrySet_10 : decode cJ1_entrySet 10 = .ok (.goto 16, 3) := dk_167 0 16 (dk_at dksJ1_entrySet_0 10 rfl rfl)
theorem dJ1_entrySet_13 : decode cJ1_entrySet 13 = .ok (.aload_n 0, 1) := dk_42 (dk_at dksJ1_entrySet_0 13 rfl rfl)
theorem dJ1_entrySet_14 : decode cJ1_entrySet 14 = .ok (.new 242, 3) := dk_187 0 242 (dk_at dksJ1_entrySet_0 14 rfl rfl)
theorem dJ1_entrySet_17 : decode cJ1_entrySet 17 = .ok (.dup, 1) := dk_89 (dk_at dksJ1_entrySet_0 17 rfl rfl)
theorem dJ1_entrySet_18 : decode cJ1_entrySet 18 = .ok (.aload_n 0, 1) := dk_42 (dk_at dksJ1_entrySet_0 18 rfl rfl)
theorem dJ1_entrySet_19 : decode cJ1_entrySet 19 = .ok (.invokespecial 244, 3) := dk_183 0 244 (dk_at dksJ1_entrySet_0 19 rfl rfl)
theorem dJ1_entrySet_22 : decode cJ1_entrySet 22 = .ok (.dup_x1, 1) := dk_90 (dk_at dksJ1_entrySet_0 22 rfl rfl)
theorem dJ1_entrySet_23 : decode cJ1_entrySet 23 = .ok (.putfield 188, 3) := dk_181 0 188 (dk_at dksJ1_entrySet_1 0 rfl rfl)
theorem dJ1_entrySet_26 : decode cJ1_entrySet 26 = .ok (.areturn, 1) := dk_176 (dk_at dksJ1_entrySet_1 3 rfl rfl)
abbrev cJ1_getFirstEntry : ByteArray := prog_82_method_72_code
def yJ1_getFirstEntry : MethodName := ⟨RJ1, "getFirstEntry", "()Ljava/util/TreeMap$Entry;"⟩
def dkwJ1_getFirstEntry_1 : List UInt8 := [43, 176]
abbrev dktJ1_getFirstEntry_1 : List UInt8 := dkwJ1_getFirstEntry_1 ++ []
def dkwJ1_getFirstEntry_0 : List UInt8 := [42, 180, 0, 101, 76, 43, 198, 0, 18, 43, 180, 0, 111, 198, 0, 11, 43, 180, 0, 111, 76, 167, 255, 244]
abbrev dktJ1_getFirstEntry_0 : List UInt8 := dkwJ1_getFirstEntry_0 ++ dktJ1_getFirstEntry_1
theorem dksJ1_getFirstEntry_0 : cJ1_getFirstEntry.data.toList.drop 0 = dktJ1_getFirstEntry_0 := by decide +kernel
theorem dksJ1_getFirstEntry_1 : cJ1_getFirstEntry.data.toList.drop 24 = dktJ1_getFirstEntry_1 := dk_seg dksJ1_getFirstEntry_0 24 rfl rfl
theorem dJ1_getFirstEntry_0 : decode cJ1_getFirstEntry 0 = .ok (.aload_n 0, 1) := dk_42 (dk_at dksJ1_getFirstEntry_0 0 rfl rfl)
theorem dJ1_getFirstEntry_1 : decode cJ1_getFirstEntry 1 = .ok (.getfield 101, 3) := dk_180 0 101 (dk_at dksJ1_getFirstEntry_0 1 rfl rfl)
theorem dJ1_getFirstEntry_4 : decode cJ1_getFirstEntry 4 = .ok (.astore_n 1, 1) := dk_76 (dk_at dksJ1_getFirstEntry_0 4 rfl rfl)
theorem dJ1_getFirstEntry_5 : decode cJ1_getFirstEntry 5 = .ok (.aload_n 1, 1) := dk_43 (dk_at dksJ1_getFirstEntry_0 5 rfl rfl)
theorem dJ1_getFirstEntry_6 : decode cJ1_getFirstEntry 6 = .ok (.ifnull 18, 3) := dk_198 0 18 (dk_at dksJ1_getFirstEntry_0 6 rfl rfl)
theorem dJ1_getFirstEntry_9 : decode cJ1_getFirstEntry 9 = .ok (.aload_n 1, 1) := dk_43 (dk_at dksJ1_getFirstEntry_0 9 rfl rfl)
theorem dJ1_getFirstEntry_10 : decode cJ1_getFirstEntry 10 = .ok (.getfield 111, 3) := dk_180 0 111 (dk_at dksJ1_getFirstEntry_0 10 rfl rfl)
theorem dJ1_getFirstEntry_13 : decode cJ1_getFirstEntry 13 = .ok (.ifnull 11, 3) := dk_198 0 11 (dk_at dksJ1_getFirstEntry_0 13 rfl rfl)
theorem dJ1_getFirstEntry_16 : decode cJ1_getFirstEntry 16 = .ok (.aload_n 1, 1) := dk_43 (dk_at dksJ1_getFirstEntry_0 16 rfl rfl)
theorem dJ1_getFirstEntry_17 : decode cJ1_getFirstEntry 17 = .ok (.getfield 111, 3) := dk_180 0 111 (dk_at dksJ1_getFirstEntry_0 17 rfl rfl)
theorem dJ1_getFirstEntry_20 : decode cJ1_getFirstEntry 20 = .ok (.astore_n 1, 1) := dk_76 (dk_at dksJ1_getFirstEntry_0 20 rfl rfl)
theorem dJ1_getFirstEntry_21 : decode cJ1_getFirstEntry 21 = .ok (.goto (-12), 3) := dk_167 255 244 (dk_at dksJ1_getFirstEntry_0 21 rfl rfl)
theorem dJ1_getFirstEntry_24 : decode cJ1_getFirstEntry 24 = .ok (.aload_n 1, 1) := dk_43 (dk_at dksJ1_getFirstEntry_1 0 rfl rfl)
theorem dJ1_getFirstEntry_25 : decode cJ1_getFirstEntry 25 = .ok (.areturn, 1) := dk_176 (dk_at dksJ1_getFirstEntry_1 1 rfl rfl)
abbrev cJ1_buildFromSorted : ByteArray := prog_82_method_90_code
def yJ1_buildFromSorted : MethodName := ⟨RJ1, "buildFromSorted", "(ILjava/util/Iterator;Ljava/io/ObjectInputStream;Ljava/lang/Object;)V"⟩
def dkwJ1_buildFromSorted_1 : List UInt8 := [181, 0, 101, 177]
abbrev dktJ1_buildFromSorted_1 : List UInt8 := dkwJ1_buildFromSorted_1 ++ []
def dkwJ1_buildFromSorted_0 : List UInt8 := [42, 27, 181, 0, 7, 42, 42, 3, 3, 27, 4, 100, 27, 184, 1, 106, 44, 45, 25, 4, 182, 1, 110]
abbrev dktJ1_buildFromSorted_0 : List UInt8 := dkwJ1_buildFromSorted_0 ++ dktJ1_buildFromSorted_1
theorem dksJ1_buildFromSorted_0 : cJ1_buildFromSorted.data.toList.drop 0 = dktJ1_buildFromSorted_0 := by decide +kernel
theorem dksJ1_buildFromSorted_1 : cJ1_buildFromSorted.data.toList.drop 23 = dktJ1_buildFromSorted_1 := dk_seg dksJ1_buildFromSorted_0 23 rfl rfl
theorem dJ1_buildFromSorted_0 : decode cJ1_buildFromSorted 0 = .ok (.aload_n 0, 1) := dk_42 (dk_at dksJ1_buildFromSorted_0 0 rfl rfl)
theorem dJ1_buildFromSorted_1 : decode cJ1_buildFromSorted 1 = .ok (.iload_n 1, 1) := dk_27 (dk_at dksJ1_buildFromSorted_0 1 rfl rfl)
theorem dJ1_buildFromSorted_2 : decode cJ1_buildFromSorted 2 = .ok (.putfield 7, 3) := dk_181 0 7 (dk_at dksJ1_buildFromSorted_0 2 rfl rfl)
theorem dJ1_buildFromSorted_5 : decode cJ1_buildFromSorted 5 = .ok (.aload_n 0, 1) := dk_42 (dk_at dksJ1_buildFromSorted_0 5 rfl rfl)
theorem dJ1_buildFromSorted_6 : decode cJ1_buildFromSorted 6 = .ok (.aload_n 0, 1) := dk_42 (dk_at dksJ1_buildFromSorted_0 6 rfl rfl)
theorem dJ1_buildFromSorted_7 : decode cJ1_buildFromSorted 7 = .ok (.iconst 0, 1) := dk_3 (dk_at dksJ1_buildFromSorted_0 7 rfl rfl)
theorem dJ1_buildFromSorted_8 : decode cJ1_buildFromSorted 8 = .ok (.iconst 0, 1) := dk_3 (dk_at dksJ1_buildFromSorted_0 8 rfl rfl)
theorem dJ1_buildFromSorted_9 : decode cJ1_buildFromSorted 9 = .ok (.iload_n 1, 1) := dk_27 (dk_at dksJ1_buildFromSorted_0 9 rfl rfl)
theorem dJ1_buildFromSorted_10 : decode cJ1_buildFromSorted 10 = .ok (.iconst 1, 1) := dk_4 (dk_at dksJ1_buildFromSorted_0 10 rfl rfl)
theorem dJ1_buildFromSorted_11 : decode cJ1_buildFromSorted 11 = .ok (.isub, 1) := dk_100 (dk_at dksJ1_buildFromSorted_0 11 rfl rfl)
theorem dJ1_buildFromSorted_12 : decode cJ1_buildFromSorted 12 = .ok (.iload_n 1, 1) := dk_27 (dk_at dksJ1_buildFromSorted_0 12 rfl rfl)
theorem dJ1_buildFromSorted_13 : decode cJ1_buildFromSorted 13 = .ok (.invokestatic 362, 3) := dk_184 1 106 (dk_at dksJ1_buildFromSorted_0 13 rfl rfl)
theorem dJ1_buildFromSorted_16 : decode cJ1_buildFromSorted 16 = .ok (.aload_n 2, 1) := dk_44 (dk_at dksJ1_buildFromSorted_0 16 rfl rfl)
theorem dJ1_buildFromSorted_17 : decode cJ1_buildFromSorted 17 = .ok (.aload_n 3, 1) := dk_45 (dk_at dksJ1_buildFromSorted_0 17 rfl rfl)
theorem dJ1_buildFromSorted_18 : decode cJ1_buildFromSorted 18 = .ok (.aload 4, 2) := dk_25 4 (dk_at dksJ1_buildFromSorted_0 18 rfl rfl)
theorem dJ1_buildFromSorted_20 : decode cJ1_buildFromSorted 20 = .ok (.invokevirtual 366, 3) := dk_182 1 110 (dk_at dksJ1_buildFromSorted_0 20 rfl rfl)
theorem dJ1_buildFromSorted_23 : decode cJ1_buildFromSorted 23 = .ok (.putfield 101, 3) := dk_181 0 101 (dk_at dksJ1_buildFromSorted_1 0 rfl rfl)
theorem dJ1_buildFromSorted_26 : decode cJ1_buildFromSorted 26 = .ok (.return_, 1) := dk_177 (dk_at dksJ1_buildFromSorted_1 3 rfl rfl)
abbrev cJ1_computeRedLevel : ByteArray := prog_82_method_92_code
def yJ1_computeRedLevel : MethodName := ⟨RJ1, "computeRedLevel", "(I)I"⟩
def dkwJ1_computeRedLevel_0 : List UInt8 := [16, 31, 26, 4, 96, 184, 1, 116, 100, 172]
abbrev dktJ1_computeRedLevel_0 : List UInt8 := dkwJ1_computeRedLevel_0 ++ []
theorem dksJ1_computeRedLevel_0 : cJ1_computeRedLevel.data.toList.drop 0 = dktJ1_computeRedLevel_0 := by decide +kernel
theorem dJ1_computeRedLevel_0 : decode cJ1_computeRedLevel 0 = .ok (.bipush 31, 2) := dk_16 31 (dk_at dksJ1_computeRedLevel_0 0 rfl rfl)
theorem dJ1_computeRedLevel_2 : decode cJ1_computeRedLevel 2 = .ok (.iload_n 0, 1) := dk_26 (dk_at dksJ1_computeRedLevel_0 2 rfl rfl)
theorem dJ1_computeRedLevel_3 : decode cJ1_computeRedLevel 3 = .ok (.iconst 1, 1) := dk_4 (dk_at dksJ1_computeRedLevel_0 3 rfl rfl)
theorem dJ1_computeRedLevel_4 : decode cJ1_computeRedLevel 4 = .ok (.iadd, 1) := dk_96 (dk_at dksJ1_computeRedLevel_0 4 rfl rfl)
theorem dJ1_computeRedLevel_5 : decode cJ1_computeRedLevel 5 = .ok (.invokestatic 372, 3) := dk_184 1 116 (dk_at dksJ1_computeRedLevel_0 5 rfl rfl)
theorem dJ1_computeRedLevel_8 : decode cJ1_computeRedLevel 8 = .ok (.isub, 1) := dk_100 (dk_at dksJ1_computeRedLevel_0 8 rfl rfl)
theorem dJ1_computeRedLevel_9 : decode cJ1_computeRedLevel 9 = .ok (.ireturn, 1) := dk_172 (dk_at dksJ1_computeRedLevel_0 9 rfl rfl)
abbrev cJ1_buildFromSorted_2 : ByteArray := prog_82_method_91_code
def yJ1_buildFromSorted_2 : MethodName := ⟨RJ1, "buildFromSorted", "(IIIILjava/util/Iterator;Ljava/io/ObjectInputStream;Ljava/lang/Object;)Ljava/util/TreeMap$Entry;"⟩
def dkwJ1_buildFromSorted_2_9 : List UInt8 := [25, 13, 25, 12, 181, 0, 124, 25, 12, 176]
abbrev dktJ1_buildFromSorted_2_9 : List UInt8 := dkwJ1_buildFromSorted_2_9 ++ []
def dkwJ1_buildFromSorted_2_8 : List UInt8 := [4, 96, 29, 21, 4, 25, 5, 25, 6, 25, 7, 182, 1, 110, 58, 13, 25, 12, 25, 13, 181, 0, 114]
abbrev dktJ1_buildFromSorted_2_8 : List UInt8 := dkwJ1_buildFromSorted_2_8 ++ dktJ1_buildFromSorted_2_9
def dkwJ1_buildFromSorted_2_7 : List UInt8 := [25, 9, 181, 0, 111, 25, 9, 25, 12, 181, 0, 124, 21, 8, 29, 162, 0, 39, 42, 27, 4, 96, 21, 8]
abbrev dktJ1_buildFromSorted_2_7 : List UInt8 := dkwJ1_buildFromSorted_2_7 ++ dktJ1_buildFromSorted_2_8
def dkwJ1_buildFromSorted_2_6 : List UInt8 := [183, 0, 167, 58, 12, 27, 21, 4, 160, 0, 9, 25, 12, 3, 181, 1, 34, 25, 9, 198, 0, 17, 25, 12]
abbrev dktJ1_buildFromSorted_2_6 : List UInt8 := dkwJ1_buildFromSorted_2_6 ++ dktJ1_buildFromSorted_2_7
def dkwJ1_buildFromSorted_2_5 : List UInt8 := [198, 0, 8, 25, 7, 167, 0, 8, 25, 6, 182, 1, 113, 58, 11, 187, 0, 59, 89, 25, 10, 25, 11, 1]
abbrev dktJ1_buildFromSorted_2_5 : List UInt8 := dkwJ1_buildFromSorted_2_5 ++ dktJ1_buildFromSorted_2_6
def dkwJ1_buildFromSorted_2_4 : List UInt8 := [185, 1, 79, 1, 0, 58, 10, 25, 7, 58, 11, 167, 0, 27, 25, 6, 182, 1, 113, 58, 10, 25, 7]
abbrev dktJ1_buildFromSorted_2_4 : List UInt8 := dkwJ1_buildFromSorted_2_4 ++ dktJ1_buildFromSorted_2_5
def dkwJ1_buildFromSorted_2_3 : List UInt8 := [185, 1, 84, 1, 0, 58, 10, 25, 12, 185, 1, 91, 1, 0, 58, 11, 167, 0, 43, 25, 5]
abbrev dktJ1_buildFromSorted_2_3 : List UInt8 := dkwJ1_buildFromSorted_2_3 ++ dktJ1_buildFromSorted_2_4
def dkwJ1_buildFromSorted_2_2 : List UInt8 := [198, 0, 57, 25, 7, 199, 0, 36, 25, 5, 185, 1, 79, 1, 0, 192, 1, 82, 58, 12, 25, 12]
abbrev dktJ1_buildFromSorted_2_2 : List UInt8 := dkwJ1_buildFromSorted_2_2 ++ dktJ1_buildFromSorted_2_3
def dkwJ1_buildFromSorted_2_1 : List UInt8 := [27, 4, 96, 28, 21, 8, 4, 100, 21, 4, 25, 5, 25, 6, 25, 7, 182, 1, 110, 58, 9, 25, 5]
abbrev dktJ1_buildFromSorted_2_1 : List UInt8 := dkwJ1_buildFromSorted_2_1 ++ dktJ1_buildFromSorted_2_2
def dkwJ1_buildFromSorted_2_0 : List UInt8 := [29, 28, 162, 0, 5, 1, 176, 28, 29, 96, 4, 124, 54, 8, 1, 58, 9, 28, 21, 8, 162, 0, 25, 42]
abbrev dktJ1_buildFromSorted_2_0 : List UInt8 := dkwJ1_buildFromSorted_2_0 ++ dktJ1_buildFromSorted_2_1
theorem dksJ1_buildFromSorted_2_0 : cJ1_buildFromSorted_2.data.toList.drop 0 = dktJ1_buildFromSorted_2_0 := by decide +kernel
theorem dksJ1_buildFromSorted_2_1 : cJ1_buildFromSorted_2.data.toList.drop 24 = dktJ1_buildFromSorted_2_1 := dk_seg dksJ1_buildFromSorted_2_0 24 rfl rfl
theorem dksJ1_buildFromSorted_2_2 : cJ1_buildFromSorted_2.data.toList.drop 47 = dktJ1_buildFromSorted_2_2 := dk_seg dksJ1_buildFromSorted_2_1 23 rfl rfl
theorem dksJ1_buildFromSorted_2_3 : cJ1_buildFromSorted_2.data.toList.drop 69 = dktJ1_buildFromSorted_2_3 := dk_seg dksJ1_buildFromSorted_2_2 22 rfl rfl
theorem dksJ1_buildFromSorted_2_4 : cJ1_buildFromSorted_2.data.toList.drop 90 = dktJ1_buildFromSorted_2_4 := dk_seg dksJ1_buildFromSorted_2_3 21 rfl rfl
theorem dksJ1_buildFromSorted_2_5 : cJ1_buildFromSorted_2.data.toList.drop 113 = dktJ1_buildFromSorted_2_5 := dk_seg dksJ1_buildFromSorted_2_4 23 rfl rfl
theorem dksJ1_buildFromSorted_2_6 : cJ1_buildFromSorted_2.data.toList.drop 137 = dktJ1_buildFromSorted_2_6 := dk_seg dksJ1_buildFromSorted_2_5 24 rfl rfl
theorem dksJ1_buildFromSorted_2_7 : cJ1_buildFromSorted_2.data.toList.drop 161 = dktJ1_buildFromSorted_2_7 := dk_seg dksJ1_buildFromSorted_2_6 24 rfl rfl
theorem dksJ1_buildFromSorted_2_8 : cJ1_buildFromSorted_2.data.toList.drop 185 = dktJ1_buildFromSorted_2_8 := dk_seg dksJ1_buildFromSorted_2_7 24 rfl rfl
theorem dksJ1_buildFromSorted_2_9 : cJ1_buildFromSorted_2.data.toList.drop 208 = dktJ1_buildFromSorted_2_9 := dk_seg dksJ1_buildFromSorted_2_8 23 rfl rfl
theorem dJ1_buildFromSorted_2_0 : decode cJ1_buildFromSorted_2 0 = .ok (.iload_n 3, 1) := dk_29 (dk_at dksJ1_buildFromSorted_2_0 0 rfl rfl)
theorem dJ1_buildFromSorted_2_1 : decode cJ1_buildFromSorted_2 1 = .ok (.iload_n 2, 1) := dk_28 (dk_at dksJ1_buildFromSorted_2_0 1 rfl rfl)
theorem dJ1_buildFromSorted_2_2 : decode cJ1_buildFromSorted_2 2 = .ok (.if_icmp .ge 5, 3) := dk_162 0 5 (dk_at dksJ1_buildFromSorted_2_0 2 rfl rfl)
theorem dJ1_buildFromSorted_2_5 : decode cJ1_buildFromSorted_2 5 = .ok (.aconst_null, 1) := dk_1 (dk_at dksJ1_buildFromSorted_2_0 5 rfl rfl)
theorem dJ1_buildFromSorted_2_6 : decode cJ1_buildFromSorted_2 6 = .ok (.areturn, 1) := dk_176 (dk_at dksJ1_buildFromSorted_2_0 6 rfl rfl)
theorem dJ1_buildFromSorted_2_7 : decode cJ1_buildFromSorted_2 7 = .ok (.iload_n 2, 1) := dk_28 (dk_at dksJ1_buildFromSorted_2_0 7 rfl rfl)
theorem dJ1_buildFromSorted_2_8 : decode cJ1_buildFromSorted_2 8 = .ok (.iload_n 3, 1) := dk_29 (dk_at dksJ1_buildFromSorted_2_0 8 rfl rfl)
theorem dJ1_buildFromSorted_2_9 : decode cJ1_buildFromSorted_2 9 = .ok (.iadd, 1) := dk_96 (dk_at dksJ1_buildFromSorted_2_0 9 rfl rfl)
theorem dJ1_buildFromSorted_2_10 : decode cJ1_buildFromSorted_2 10 = .ok (.iconst 1, 1) := dk_4 (dk_at dksJ1_buildFromSorted_2_0 10 rfl rfl)
theorem dJ1_buildFromSorted_2_11 : decode cJ1_buildFromSorted_2 11 = .ok (.iushr, 1) := dk_124 (dk_at dksJ1_buildFromSorted_2_0 11 rfl rfl)
theorem dJ1_buildFromSorted_2_12 : decode cJ1_buildFromSorted_2 12 = .ok (.istore 8, 2) := dk_54 8 (dk_at dksJ1_buildFromSorted_2_0 12 rfl rfl)
theorem dJ1_buildFromSorted_2_14 : decode cJ1_buildFromSorted_2 14 = .ok (.aconst_null, 1) := dk_1 (dk_at dksJ1_buildFromSorted_2_0 14 rfl rfl)
theorem dJ1_buildFromSorted_2_15 : decode cJ1_buildFromSorted_2 15 = .ok (.astore 9, 2) := dk_58 9 (dk_at dksJ1_buildFromSorted_2_0 15 rfl rfl)
theorem dJ1_buildFromSorted_2_17 : decode cJ1_buildFromSorted_2 17 = .ok (.iload_n 2, 1) := dk_28 (dk_at dksJ1_buildFromSorted_2_0 17 rfl rfl)
theorem dJ1_buildFromSorted_2_18 : decode cJ1_buildFromSorted_2 18 = .ok (.iload 8, 2) := dk_21 8 (dk_at dksJ1_buildFromSorted_2_0 18 rfl rfl)
theorem dJ1_buildFromSorted_2_20 : decode cJ1_buildFromSorted_2 20 = .ok (.if_icmp .ge 25, 3) := dk_162 0 25 (dk_at dksJ1_buildFromSorted_2_0 20 rfl rfl)
theorem dJ1_buildFromSorted_2_23 : decode cJ1_buildFromSorted_2 23 = .ok (.aload_n 0, 1) := dk_42 (dk_at dksJ1_buildFromSorted_2_0 23 rfl rfl)
theorem dJ1_buildFromSorted_2_24 : decode cJ1_buildFromSorted_2 24 = .ok (.iload_n 1, 1) := dk_27 (dk_at dksJ1_buildFromSorted_2_1 0 rfl rfl)
theorem dJ1_buildFromSorted_2_25 : decode cJ1_buildFromSorted_2 25 = .ok (.iconst 1, 1) := dk_4 (dk_at dksJ1_buildFromSorted_2_1 1 rfl rfl)
theorem dJ1_buildFromSorted_2_26 : decode cJ1_buildFromSorted_2 26 = .ok (.iadd, 1) := dk_96 (dk_at dksJ1_buildFromSorted_2_1 2 rfl rfl)
theorem dJ1_buildFromSorted_2_27 : decode cJ1_buildFromSorted_2 27 = .ok (.iload_n 2, 1) := dk_28 (dk_at dksJ1_buildFromSorted_2_1 3 rfl rfl)
theorem dJ1_buildFromSorted_2_28 : decode cJ1_buildFromSorted_2 28 = .ok (.iload 8, 2) := dk_21 8 (dk_at dksJ1_buildFromSorted_2_1 4 rfl rfl)
theorem dJ1_buildFromSorted_2_30 : decode cJ1_buildFromSorted_2 30 = .ok (.iconst 1, 1) := dk_4 (dk_at dksJ1_buildFromSorted_2_1 6 rfl rfl)
theorem dJ1_buildFromSorted_2_31 : decode cJ1_buildFromSorted_2 31 = .ok (.isub, 1) := dk_100 (dk_at dksJ1_buildFromSorted_2_1 7 rfl rfl)
theorem dJ1_buildFromSorted_2_32 : decode cJ1_buildFromSorted_2 32 = .ok (.iload 4, 2) := dk_21 4 (dk_at dksJ1_buildFromSorted_2_1 8 rfl rfl)
theorem dJ1_buildFromSorted_2_34 : decode cJ1_buildFromSorted_2 34 = .ok (.aload 5, 2) := dk_25 5 (dk_at dksJ1_buildFromSorted_2_1 10 rfl rfl)
theorem dJ1_buildFromSorted_2_36 : decode cJ1_buildFromSorted_2 36 = .ok (.aload 6, 2) := dk_25 6 (dk_at dksJ1_buildFromSorted_2_1 12 rfl rfl)
theorem dJ1_buildFromSorted_2_38 : decode cJ1_buildFromSorted_2 38 = .ok (.aload 7, 2) := dk_25 7 (dk_at dksJ1_buildFromSorted_2_1 14 rfl rfl)
theorem dJ1_buildFromSorted_2_40 : decode cJ1_buildFromSorted_2 40 = .ok (.invokevirtual 366, 3) := dk_182 1 110 (dk_at dksJ1_buildFromSorted_2_1 16 rfl rfl)
theorem dJ1_buildFromSorted_2_43 : decode cJ1_buildFromSorted_2 43 = .ok (.astore 9, 2) := dk_58 9 (dk_at dksJ1_buildFromSorted_2_1 19 rfl rfl)
theorem dJ1_buildFromSorted_2_45 : decode cJ1_buildFromSorted_2 45 = .ok (.aload 5, 2) := dk_25 5 (dk_at dksJ1_buildFromSorted_2_1 21 rfl rfl)
theorem dJ1_buildFromSorted_2_47 : decode cJ1_buildFromSorted_2 47 = .ok (.ifnull 57, 3) := dk_198 0 57 (dk_at dksJ1_buildFromSorted_2_2 0 rfl rfl)
theorem dJ1_buildFromSorted_2_50 : decode cJ1_buildFromSorted_2 50 = .ok (.aload 7, 2) := dk_25 7 (dk_at dksJ1_buildFromSorted_2_2 3 rfl rfl)
theorem dJ1_buildFromSorted_2_52 : decode cJ1_buildFromSorted_2 52 = .ok (.ifnonnull 36, 3) := dk_199 0 36 (dk_at dksJ1_buildFromSorted_2_2 5 rfl rfl)
theorem dJ1_buildFromSorted_2_55 : decode cJ1_buildFromSorted_2 55 = .ok (.aload 5, 2) := dk_25 5 (dk_at dksJ1_buildFromSorted_2_2 8 rfl rfl)
theorem dJ1_buildFromSorted_2_57 : decode cJ1_buildFromSorted_2 57 = .ok (.invokeinterface 335 1, 5) := by decide +kernel
theorem dJ1_buildFromSorted_2_62 : decode cJ1_buildFromSorted_2 62 = .ok (.checkcast 338, 3) := dk_192 1 82 (dk_at dksJ1_buildFromSorted_2_2 15 rfl rfl)
theorem dJ1_buildFromSorted_2_65 : decode cJ1_buildFromSorted_2 65 = .ok (.astore 12, 2) := dk_58 12 (dk_at dksJ1_buildFromSorted_2_2 18 rfl rfl)
theorem dJ1_buildFromSorted_2_67 : decode cJ1_buildFromSorted_2 67 = .ok (.aload 12, 2) := dk_25 12 (dk_at dksJ1_buildFromSorted_2_2 20 rfl rfl)
theorem dJ1_buildFromSorted_2_69 : decode cJ1_buildFromSorted_2 69 = .ok (.invokeinterface 340 1, 5) := by decide +kernel
theorem dJ1_buildFromSorted_2_74 : decode cJ1_buildFromSorted_2 74 = .ok (.astore 10, 2) := dk_58 10 (dk_at dksJ1_buildFromSorted_2_3 5 rfl rfl)
theorem dJ1_buildFromSorted_2_76 : decode cJ1_buildFromSorted_2 76 = .ok (.aload 12, 2) := dk_25 12 (dk_at dksJ1_buildFromSorted_2_3 7 rfl rfl)
theorem dJ1_buildFromSorted_2_78 : decode cJ1_buildFromSorted_2 78 = .ok (.invokeinterface 347 1, 5) := by decide +kernel
theorem dJ1_buildFromSorted_2_83 : decode cJ1_buildFromSorted_2 83 = .ok (.astore 11, 2) := dk_58 11 (dk_at dksJ1_buildFromSorted_2_3 14 rfl rfl)
theorem dJ1_buildFromSorted_2_85 : decode cJ1_buildFromSorted_2 85 = .ok (.goto 43, 3) := dk_167 0 43 (dk_at dksJ1_buildFromSorted_2_3 16 rfl rfl)
theorem dJ1_buildFromSorted_2_88 : decode cJ1_buildFromSorted_2 88 = .ok (.aload 5, 2) := dk_25 5 (dk_at dksJ1_buildFromSorted_2_3 19 rfl rfl)
theorem dJ1_buildFromSorted_2_90 : decode cJ1_buildFromSorted_2 90 = .ok (.invokeinterface 335 1, 5) := by decide +kernel
theorem dJ1_buildFromSorted_2_95 : decode cJ1_buildFromSorted_2 95 = .ok (.astore 10, 2) := dk_58 10 (dk_at dksJ1_buildFromSorted_2_4 5 rfl rfl)
theorem dJ1_buildFromSorted_2_97 : decode cJ1_buildFromSorted_2 97 = .ok (.aload 7, 2) := dk_25 7 (dk_at dksJ1_buildFromSorted_2_4 7 rfl rfl)
theorem dJ1_buildFromSorted_2_99 : decode cJ1_buildFromSorted_2 99 = .ok (.astore 11, 2) := dk_58 11 (dk_at dksJ1_buildFromSorted_2_4 9 rfl rfl)
theorem dJ1_buildFromSorted_2_101 : decode cJ1_buildFromSorted_2 101 = .ok (.goto 27, 3) := dk_167 0 27 (dk_at dksJ1_buildFromSorted_2_4 11 rfl rfl)
theorem dJ1_buildFromSorted_2_104 : decode cJ1_buildFromSorted_2 104 = .ok (.aload 6, 2) := dk_25 6 (dk_at dksJ1_buildFromSorted_2_4 14 rfl rfl)
theorem dJ1_buildFromSorted_2_106 : decode cJ1_buildFromSorted_2 106 = .ok (.invokevirtual 369, 3) := dk_182 1 113 (dk_at dksJ1_buildFromSorted_2_4 16 rfl rfl)
theorem dJ1_buildFromSorted_2_109 : decode cJ1_buildFromSorted_2 109 = .ok (.astore 10, 2) := dk_58 10 (dk_at dksJ1_buildFromSorted_2_4 19 rfl rfl)
theorem dJ1_buildFromSorted_2_111 : decode cJ1_buildFromSorted_2 111 = .ok (.aload 7, 2) := dk_25 7 (dk_at dksJ1_buildFromSorted_2_4 21 rfl rfl)
theorem dJ1_buildFromSorted_2_113 : decode cJ1_buildFromSorted_2 113 = .ok (.ifnull 8, 3) := dk_198 0 8 (dk_at dksJ1_buildFromSorted_2_5 0 rfl rfl)
theorem dJ1_buildFromSorted_2_116 : decode cJ1_buildFromSorted_2 116 = .ok (.aload 7, 2) := dk_25 7 (dk_at dksJ1_buildFromSorted_2_5 3 rfl rfl)
theorem dJ1_buildFromSorted_2_118 : decode cJ1_buildFromSorted_2 118 = .ok (.goto 8, 3) := dk_167 0 8 (dk_at dksJ1_buildFromSorted_2_5 5 rfl rfl)
theorem dJ1_buildFromSorted_2_121 : decode cJ1_buildFromSorted_2 121 = .ok (.aload 6, 2) := dk_25 6 (dk_at dksJ1_buildFromSorted_2_5 8 rfl rfl)
theorem dJ1_buildFromSorted_2_123 : decode cJ1_buildFromSorted_2 123 = .ok (.invokevirtual 369, 3) := dk_182 1 113 (dk_at dksJ1_buildFromSorted_2_5 10 rfl rfl)
theorem dJ1_buildFromSorted_2_126 : decode cJ1_buildFromSorted_2 126 = .ok (.astore 11, 2) := dk_58 11 (dk_at dksJ1_buildFromSorted_2_5 13 rfl rfl)
theorem dJ1_buildFromSorted_2_128 : decode cJ1_buildFromSorted_2 128 = .ok (.new 59, 3) := dk_187 0 59 (dk_at dksJ1_buildFromSorted_2_5 15 rfl rfl)
theorem dJ1_buildFromSorted_2_131 : decode cJ1_buildFromSorted_2 131 = .ok (.dup, 1) := dk_89 (dk_at dksJ1_buildFromSorted_2_5 18 rfl rfl)
theorem dJ1_buildFromSorted_2_132 : decode cJ1_buildFromSorted_2 132 = .ok (.aload 10, 2) := dk_25 10 (dk_at dksJ1_buildFromSorted_2_5 19 rfl rfl)
theorem dJ1_buildFromSorted_2_134 : decode cJ1_buildFromSorted_2 134 = .ok (.aload 11, 2) := dk_25 11 (dk_at dksJ1_buildFromSorted_2_5 21 rfl rfl)
theorem dJ1_buildFromSorted_2_136 : decode cJ1_buildFromSorted_2 136 = .ok (.aconst_null, 1) := dk_1 (dk_at dksJ1_buildFromSorted_2_5 23 rfl rfl)
theorem dJ1_buildFromSorted_2_137 : decode cJ1_buildFromSorted_2 137 = .ok (.invokespecial 167, 3) := dk_183 0 167 (dk_at dksJ1_buildFromSorted_2_6 0 rfl rfl)
theorem dJ1_buildFromSorted_2_140 : decode cJ1_buildFromSorted_2 140 = .ok (.astore 12, 2) := dk_58 12 (dk_at dksJ1_buildFromSorted_2_6 3 rfl rfl)
theorem dJ1_buildFromSorted_2_142 : decode cJ1_buildFromSorted_2 142 = .ok (.iload_n 1, 1) := dk_27 (dk_at dksJ1_buildFromSorted_2_6 5 rfl rfl)
theorem dJ1_buildFromSorted_2_143 : decode cJ1_buildFromSorted_2 143 = .ok (.iload 4, 2) := dk_21 4 (dk_at dksJ1_buildFromSorted_2_6 6 rfl rfl)
theorem dJ1_buildFromSorted_2_145 : decode cJ1_buildFromSorted_2 145 = .ok (.if_icmp .ne 9, 3) := dk_160 0 9 (dk_at dksJ1_buildFromSorted_2_6 8 rfl rfl)
theorem dJ1_buildFromSorted_2_148 : decode cJ1_buildFromSorted_2 148 = .ok (.aload 12, 2) := dk_25 12 (dk_at dksJ1_buildFromSorted_2_6 11 rfl rfl)
theorem dJ1_buildFromSorted_2_150 : decode cJ1_buildFromSorted_2 150 = .ok (.iconst 0, 1) := dk_3 (dk_at dksJ1_buildFromSorted_2_6 13 rfl rfl)
theorem dJ1_buildFromSorted_2_151 : decode cJ1_buildFromSorted_2 151 = .ok (.putfield 290, 3) := dk_181 1 34 (dk_at dksJ1_buildFromSorted_2_6 14 rfl rfl)
theorem dJ1_buildFromSorted_2_154 : decode cJ1_buildFromSorted_2 154 = .ok (.aload 9, 2) := dk_25 9 (dk_at dksJ1_buildFromSorted_2_6 17 rfl rfl)
theorem dJ1_buildFromSorted_2_156 : decode cJ1_buildFromSorted_2 156 = .ok (.ifnull 17, 3) := dk_198 0 17 (dk_at dksJ1_buildFromSorted_2_6 19 rfl rfl)
theorem dJ1_buildFromSorted_2_159 : decode cJ1_buildFromSorted_2 159 = .ok (.aload 12, 2) := dk_25 12 (dk_at dksJ1_buildFromSorted_2_6 22 rfl rfl)
theorem dJ1_buildFromSorted_2_161 : decode cJ1_buildFromSorted_2 161 = .ok (.aload 9, 2) := dk_25 9 (dk_at dksJ1_buildFromSorted_2_7 0 rfl rfl)
theorem dJ1_buildFromSorted_2_163 : decode cJ1_buildFromSorted_2 163 = .ok (.putfield 111, 3) := dk_181 0 111 (dk_at dksJ1_buildFromSorted_2_7 2 rfl rfl)
theorem dJ1_buildFromSorted_2_166 : decode cJ1_buildFromSorted_2 166 = .ok (.aload 9, 2) := dk_25 9 (dk_at dksJ1_buildFromSorted_2_7 5 rfl rfl)
theorem dJ1_buildFromSorted_2_168 : decode cJ1_buildFromSorted_2 168 = .ok (.aload 12, 2) := dk_25 12 (dk_at dksJ1_buildFromSorted_2_7 7 rfl rfl)
theorem dJ1_buildFromSorted_2_170 : decode cJ1_buildFromSorted_2 170 = .ok (.putfield 124, 3) := dk_181 0 124 (dk_at dksJ1_buildFromSorted_2_7 9 rfl rfl)
theorem dJ1_buildFromSorted_2_173 : decode cJ1_buildFromSorted_2 173 = .ok (.iload 8, 2) := dk_21 8 (dk_at dksJ1_buildFromSorted_2_7 12 rfl rfl)
theorem dJ1_buildFromSorted_2_175 : decode cJ1_buildFromSorted_2 175 = .ok (.iload_n 3, 1) := dk_29 (dk_at dksJ1_buildFromSorted_2_7 14 rfl rfl)
theorem dJ1_buildFromSorted_2_176 : decode cJ1_buildFromSorted_2 176 = .ok (.if_icmp .ge 39, 3) := dk_162 0 39 (dk_at dksJ1_buildFromSorted_2_7 15 rfl rfl)
theorem dJ1_buildFromSorted_2_179 : decode cJ1_buildFromSorted_2 179 = .ok (.aload_n 0, 1) := dk_42 (dk_at dksJ1_buildFromSorted_2_7 18 rfl rfl)
theorem dJ1_buildFromSorted_2_180 : decode cJ1_buildFromSorted_2 180 = .ok (.iload_n 1, 1) := dk_27 (dk_at dksJ1_buildFromSorted_2_7 19 rfl rfl)
theorem dJ1_buildFromSorted_2_181 : decode cJ1_buildFromSorted_2 181 = .ok (.iconst 1, 1) := dk_4 (dk_at dksJ1_buildFromSorted_2_7 20 rfl rfl)
theorem dJ1_buildFromSorted_2_182 : decode cJ1_buildFromSorted_2 182 = .ok (.iadd, 1) := dk_96 (dk_at dksJ1_buildFromSorted_2_7 21 rfl rfl)
theorem dJ1_buildFromSorted_2_183 : decode cJ1_buildFromSorted_2 183 = .ok (.iload 8, 2) := dk_21 8 (dk_at dksJ1_buildFromSorted_2_7 22 rfl rfl)
theorem dJ1_buildFromSorted_2_185 : decode cJ1_buildFromSorted_2 185 = .ok (.iconst 1, 1) := dk_4 (dk_at dksJ1_buildFromSorted_2_8 0 rfl rfl)
theorem dJ1_buildFromSorted_2_186 : decode cJ1_buildFromSorted_2 186 = .ok (.iadd, 1) := dk_96 (dk_at dksJ1_buildFromSorted_2_8 1 rfl rfl)
theorem dJ1_buildFromSorted_2_187 : decode cJ1_buildFromSorted_2 187 = .ok (.iload_n 3, 1) := dk_29 (dk_at dksJ1_buildFromSorted_2_8 2 rfl rfl)
theorem dJ1_buildFromSorted_2_188 : decode cJ1_buildFromSorted_2 188 = .ok (.iload 4, 2) := dk_21 4 (dk_at dksJ1_buildFromSorted_2_8 3 rfl rfl)
theorem dJ1_buildFromSorted_2_190 : decode cJ1_buildFromSorted_2 190 = .ok (.aload 5, 2) := dk_25 5 (dk_at dksJ1_buildFromSorted_2_8 5 rfl rfl)
theorem dJ1_buildFromSorted_2_192 : decode cJ1_buildFromSorted_2 192 = .ok (.aload 6, 2) := dk_25 6 (dk_at dksJ1_buildFromSorted_2_8 7 rfl rfl)
theorem dJ1_buildFromSorted_2_194 : decode cJ1_buildFromSorted_2 194 = .ok (.aload 7, 2) := dk_25 7 (dk_at dksJ1_buildFromSorted_2_8 9 rfl rfl)
theorem dJ1_buildFromSorted_2_196 : decode cJ1_buildFromSorted_2 196 = .ok (.invokevirtual 366, 3) := dk_182 1 110 (dk_at dksJ1_buildFromSorted_2_8 11 rfl rfl)
theorem dJ1_buildFromSorted_2_199 : decode cJ1_buildFromSorted_2 199 = .ok (.astore 13, 2) := dk_58 13 (dk_at dksJ1_buildFromSorted_2_8 14 rfl rfl)
theorem dJ1_buildFromSorted_2_201 : decode cJ1_buildFromSorted_2 201 = .ok (.aload 12, 2) := dk_25 12 (dk_at dksJ1_buildFromSorted_2_8 16 rfl rfl)
theorem dJ1_buildFromSorted_2_203 : decode cJ1_buildFromSorted_2 203 = .ok (.aload 13, 2) := dk_25 13 (dk_at dksJ1_buildFromSorted_2_8 18 rfl rfl)
theorem dJ1_buildFromSorted_2_205 : decode cJ1_buildFromSorted_2 205 = .ok (.putfield 114, 3) := dk_181 0 114 (dk_at dksJ1_buildFromSorted_2_8 20 rfl rfl)
theorem dJ1_buildFromSorted_2_208 : decode cJ1_buildFromSorted_2 208 = .ok (.aload 13, 2) := dk_25 13 (dk_at dksJ1_buildFromSorted_2_9 0 rfl rfl)
theorem dJ1_buildFromSorted_2_210 : decode cJ1_buildFromSorted_2 210 = .ok (.aload 12, 2) := dk_25 12 (dk_at dksJ1_buildFromSorted_2_9 2 rfl rfl)
theorem dJ1_buildFromSorted_2_212 : decode cJ1_buildFromSorted_2 212 = .ok (.putfield 124, 3) := dk_181 0 124 (dk_at dksJ1_buildFromSorted_2_9 4 rfl rfl)
theorem dJ1_buildFromSorted_2_215 : decode cJ1_buildFromSorted_2 215 = .ok (.aload 12, 2) := dk_25 12 (dk_at dksJ1_buildFromSorted_2_9 7 rfl rfl)
theorem dJ1_buildFromSorted_2_217 : decode cJ1_buildFromSorted_2 217 = .ok (.areturn, 1) := dk_176 (dk_at dksJ1_buildFromSorted_2_9 9 rfl rfl)
abbrev cJ1_successor : ByteArray := prog_82_method_74_code
def yJ1_successor : MethodName := ⟨RJ1, "successor", "(Ljava/util/TreeMap$Entry;)Ljava/util/TreeMap$Entry;"⟩
def dkwJ1_successor_2 : List UInt8 := [44, 43, 180, 0, 114, 166, 0, 13, 43, 77, 43, 180, 0, 124, 76, 167, 255, 237, 43, 176]
abbrev dktJ1_successor_2 : List UInt8 := dkwJ1_successor_2 ++ []
def dkwJ1_successor_1 : List UInt8 := [198, 0, 11, 43, 180, 0, 111, 76, 167, 255, 244, 43, 176, 42, 180, 0, 124, 76, 42, 77, 43, 198, 0, 21]
abbrev dktJ1_successor_1 : List UInt8 := dkwJ1_successor_1 ++ dktJ1_successor_2
def dkwJ1_successor_0 : List UInt8 := [42, 199, 0, 5, 1, 176, 42, 180, 0, 114, 198, 0, 25, 42, 180, 0, 114, 76, 43, 180, 0, 111]
abbrev dktJ1_successor_0 : List UInt8 := dkwJ1_successor_0 ++ dktJ1_successor_1
theorem dksJ1_successor_0 : cJ1_successor.data.toList.drop 0 = dktJ1_successor_0 := by decide +kernel
theorem dksJ1_successor_1 : cJ1_successor.data.toList.drop 22 = dktJ1_successor_1 := dk_seg dksJ1_successor_0 22 rfl rfl
theorem dksJ1_successor_2 : cJ1_successor.data.toList.drop 46 = dktJ1_successor_2 := dk_seg dksJ1_successor_1 24 rfl rfl
theorem dJ1_successor_0 : decode cJ1_successor 0 = .ok (.aload_n 0, 1) := dk_42 (dk_at dksJ1_successor_0 0 rfl rfl)
theorem dJ1_successor_1 : decode cJ1_successor 1 = .ok (.ifnonnull 5, 3) := dk_199 0 5 (dk_at dksJ1_successor_0 1 rfl rfl)
theorem dJ1_successor_4 : decode cJ1_successor 4 = .ok (.aconst_null, 1) := dk_1 (dk_at dksJ1_successor_0 4 rfl rfl)
theorem dJ1_successor_5 : decode cJ1_successor 5 = .ok (.areturn, 1) := dk_176 (dk_at dksJ1_successor_0 5 rfl rfl)
theorem dJ1_successor_6 : decode cJ1_successor 6 = .ok (.aload_n 0, 1) := dk_42 (dk_at dksJ1_successor_0 6 rfl rfl)
theorem dJ1_successor_7 : decode cJ1_successor 7 = .ok (.getfield 114, 3) := dk_180 0 114 (dk_at dksJ1_successor_0 7 rfl rfl)
theorem dJ1_successor_10 : decode cJ1_successor 10 = .ok (.ifnull 25, 3) := dk_198 0 25 (dk_at dksJ1_successor_0 10 rfl rfl)
theorem dJ1_successor_13 : decode cJ1_successor 13 = .ok (.aload_n 0, 1) := dk_42 (dk_at dksJ1_successor_0 13 rfl rfl)
theorem dJ1_successor_14 : decode cJ1_successor 14 = .ok (.getfield 114, 3) := dk_180 0 114 (dk_at dksJ1_successor_0 14 rfl rfl)
theorem dJ1_successor_17 : decode cJ1_successor 17 = .ok (.astore_n 1, 1) := dk_76 (dk_at dksJ1_successor_0 17 rfl rfl)
theorem dJ1_successor_18 : decode cJ1_successor 18 = .ok (.aload_n 1, 1) := dk_43 (dk_at dksJ1_successor_0 18 rfl rfl)
theorem dJ1_successor_19 : decode cJ1_successor 19 = .ok (.getfield 111, 3) := dk_180 0 111 (dk_at dksJ1_successor_0 19 rfl rfl)
theorem dJ1_successor_22 : decode cJ1_successor 22 = .ok (.ifnull 11, 3) := dk_198 0 11 (dk_at dksJ1_successor_1 0 rfl rfl)
theorem dJ1_successor_25 : decode cJ1_successor 25 = .ok (.aload_n 1, 1) := dk_43 (dk_at dksJ1_successor_1 3 rfl rfl)
theorem dJ1_successor_26 : decode cJ1_successor 26 = .ok (.getfield 111, 3) := dk_180 0 111 (dk_at dksJ1_successor_1 4 rfl rfl)
theorem dJ1_successor_29 : decode cJ1_successor 29 = .ok (.astore_n 1, 1) := dk_76 (dk_at dksJ1_successor_1 7 rfl rfl)
theorem dJ1_successor_30 : decode cJ1_successor 30 = .ok (.goto (-12), 3) := dk_167 255 244 (dk_at dksJ1_successor_1 8 rfl rfl)
theorem dJ1_successor_33 : decode cJ1_successor 33 = .ok (.aload_n 1, 1) := dk_43 (dk_at dksJ1_successor_1 11 rfl rfl)
theorem dJ1_successor_34 : decode cJ1_successor 34 = .ok (.areturn, 1) := dk_176 (dk_at dksJ1_successor_1 12 rfl rfl)
theorem dJ1_successor_35 : decode cJ1_successor 35 = .ok (.aload_n 0, 1) := dk_42 (dk_at dksJ1_successor_1 13 rfl rfl)
theorem dJ1_successor_36 : decode cJ1_successor 36 = .ok (.getfield 124, 3) := dk_180 0 124 (dk_at dksJ1_successor_1 14 rfl rfl)
theorem dJ1_successor_39 : decode cJ1_successor 39 = .ok (.astore_n 1, 1) := dk_76 (dk_at dksJ1_successor_1 17 rfl rfl)
theorem dJ1_successor_40 : decode cJ1_successor 40 = .ok (.aload_n 0, 1) := dk_42 (dk_at dksJ1_successor_1 18 rfl rfl)
theorem dJ1_successor_41 : decode cJ1_successor 41 = .ok (.astore_n 2, 1) := dk_77 (dk_at dksJ1_successor_1 19 rfl rfl)
theorem dJ1_successor_42 : decode cJ1_successor 42 = .ok (.aload_n 1, 1) := dk_43 (dk_at dksJ1_successor_1 20 rfl rfl)
theorem dJ1_successor_43 : decode cJ1_successor 43 = .ok (.ifnull 21, 3) := dk_198 0 21 (dk_at dksJ1_successor_1 21 rfl rfl)
theorem dJ1_successor_46 : decode cJ1_successor 46 = .ok (.aload_n 2, 1) := dk_44 (dk_at dksJ1_successor_2 0 rfl rfl)
theorem dJ1_successor_47 : decode cJ1_successor 47 = .ok (.aload_n 1, 1) := dk_43 (dk_at dksJ1_successor_2 1 rfl rfl)
theorem dJ1_successor_48 : decode cJ1_successor 48 = .ok (.getfield 114, 3) := dk_180 0 114 (dk_at dksJ1_successor_2 2 rfl rfl)
theorem dJ1_successor_51 : decode cJ1_successor 51 = .ok (.if_acmp .ne 13, 3) := dk_166 0 13 (dk_at dksJ1_successor_2 5 rfl rfl)
theorem dJ1_successor_54 : decode cJ1_successor 54 = .ok (.aload_n 1, 1) := dk_43 (dk_at dksJ1_successor_2 8 rfl rfl)
theorem dJ1_successor_55 : decode cJ1_successor 55 = .ok (.astore_n 2, 1) := dk_77 (dk_at dksJ1_successor_2 9 rfl rfl)
theorem dJ1_successor_56 : decode cJ1_successor 56 = .ok (.aload_n 1, 1) := dk_43 (dk_at dksJ1_successor_2 10 rfl rfl)
theorem dJ1_successor_57 : decode cJ1_successor 57 = .ok (.getfield 124, 3) := dk_180 0 124 (dk_at dksJ1_successor_2 11 rfl rfl)
theorem dJ1_successor_60 : decode cJ1_successor 60 = .ok (.astore_n 1, 1) := dk_76 (dk_at dksJ1_successor_2 14 rfl rfl)
theorem dJ1_successor_61 : decode cJ1_successor 61 = .ok (.goto (-19), 3) := dk_167 255 237 (dk_at dksJ1_successor_2 15 rfl rfl)
theorem dJ1_successor_64 : decode cJ1_successor 64 = .ok (.aload_n 1, 1) := dk_43 (dk_at dksJ1_successor_2 18 rfl rfl)
theorem dJ1_successor_65 : decode cJ1_successor 65 = .ok (.areturn, 1) := dk_176 (dk_at dksJ1_successor_2 19 rfl rfl)
abbrev cJ1_put : ByteArray := prog_82_method_21_code
def yJ1_put : MethodName := ⟨RJ1, "put", "(Ljava/lang/Object;Ljava/lang/Object;)Ljava/lang/Object;"⟩
def dkwJ1_put_0 : List UInt8 := [42, 43, 44, 4, 182, 0, 127, 176]
abbrev dktJ1_put_0 : List UInt8 := dkwJ1_put_0 ++ []
theorem dksJ1_put_0 : cJ1_put.data.toList.drop 0 = dktJ1_put_0 := by decide +kernel
theorem dJ1_put_0 : decode cJ1_put 0 = .ok (.aload_n 0, 1) := dk_42 (dk_at dksJ1_put_0 0 rfl rfl)
theorem dJ1_put_1 : decode cJ1_put 1 = .ok (.aload_n 1, 1) := dk_43 (dk_at dksJ1_put_0 1 rfl rfl)
theorem dJ1_put_2 : decode cJ1_put 2 = .ok (.aload_n 2, 1) := dk_44 (dk_at dksJ1_put_0 2 rfl rfl)
theorem dJ1_put_3 : decode cJ1_put 3 = .ok (.iconst 1, 1) := dk_4 (dk_at dksJ1_put_0 3 rfl rfl)
theorem dJ1_put_4 : decode cJ1_put 4 = .ok (.invokevirtual 127, 3) := dk_182 0 127 (dk_at dksJ1_put_0 4 rfl rfl)
theorem dJ1_put_7 : decode cJ1_put 7 = .ok (.areturn, 1) := dk_176 (dk_at dksJ1_put_0 7 rfl rfl)
abbrev cJ1_put_2 : ByteArray := prog_82_method_31_code
def yJ1_put_2 : MethodName := ⟨RJ1, "put", "(Ljava/lang/Object;Ljava/lang/Object;Z)Ljava/lang/Object;"⟩
def dkwJ1_put_2_9 : List UInt8 := [4, 167, 0, 4, 3, 182, 0, 139, 1, 176]
abbrev dktJ1_put_2_9 : List UInt8 := dkwJ1_put_2_9 ++ []
def dkwJ1_put_2_8 : List UInt8 := [25, 4, 44, 181, 0, 58, 25, 9, 176, 25, 4, 199, 255, 181, 42, 43, 44, 25, 6, 21, 5, 156, 0, 7]
abbrev dktJ1_put_2_8 : List UInt8 := dkwJ1_put_2_8 ++ dktJ1_put_2_9
def dkwJ1_put_2_7 : List UInt8 := [180, 0, 114, 58, 4, 167, 0, 28, 25, 4, 180, 0, 58, 58, 9, 29, 154, 0, 8, 25, 9, 199, 0, 9]
abbrev dktJ1_put_2_7 : List UInt8 := dkwJ1_put_2_7 ++ dktJ1_put_2_8
def dkwJ1_put_2_6 : List UInt8 := [21, 5, 156, 0, 13, 25, 4, 180, 0, 111, 58, 4, 167, 0, 43, 21, 5, 158, 0, 13, 25, 4]
abbrev dktJ1_put_2_6 : List UInt8 := dkwJ1_put_2_6 ++ dktJ1_put_2_7
def dkwJ1_put_2_5 : List UInt8 := [192, 0, 99, 58, 8, 25, 4, 58, 6, 25, 8, 25, 4, 180, 0, 105, 185, 0, 107, 2, 0, 54, 5]
abbrev dktJ1_put_2_5 : List UInt8 := dkwJ1_put_2_5 ++ dktJ1_put_2_6
def dkwJ1_put_2_4 : List UInt8 := [25, 4, 44, 181, 0, 58, 25, 8, 176, 25, 4, 199, 255, 180, 167, 0, 92, 43, 184, 0, 95, 87, 43]
abbrev dktJ1_put_2_4 : List UInt8 := dkwJ1_put_2_4 ++ dktJ1_put_2_5
def dkwJ1_put_2_3 : List UInt8 := [180, 0, 114, 58, 4, 167, 0, 28, 25, 4, 180, 0, 58, 58, 8, 29, 154, 0, 8, 25, 8, 199, 0, 9]
abbrev dktJ1_put_2_3 : List UInt8 := dkwJ1_put_2_3 ++ dktJ1_put_2_4
def dkwJ1_put_2_2 : List UInt8 := [54, 5, 21, 5, 156, 0, 13, 25, 4, 180, 0, 111, 58, 4, 167, 0, 43, 21, 5, 158, 0, 13, 25, 4]
abbrev dktJ1_put_2_2 : List UInt8 := dkwJ1_put_2_2 ++ dktJ1_put_2_3
def dkwJ1_put_2_1 : List UInt8 := [58, 7, 25, 7, 198, 0, 85, 25, 4, 58, 6, 25, 7, 43, 25, 4, 180, 0, 105, 185, 0, 117, 3, 0]
abbrev dktJ1_put_2_1 : List UInt8 := dkwJ1_put_2_1 ++ dktJ1_put_2_2
def dkwJ1_put_2_0 : List UInt8 := [42, 180, 0, 101, 58, 4, 25, 4, 199, 0, 11, 42, 43, 44, 182, 0, 135, 1, 176, 42, 180, 0, 16]
abbrev dktJ1_put_2_0 : List UInt8 := dkwJ1_put_2_0 ++ dktJ1_put_2_1
theorem dksJ1_put_2_0 : cJ1_put_2.data.toList.drop 0 = dktJ1_put_2_0 := by decide +kernel
theorem dksJ1_put_2_1 : cJ1_put_2.data.toList.drop 23 = dktJ1_put_2_1 := dk_seg dksJ1_put_2_0 23 rfl rfl
theorem dksJ1_put_2_2 : cJ1_put_2.data.toList.drop 47 = dktJ1_put_2_2 := dk_seg dksJ1_put_2_1 24 rfl rfl
theorem dksJ1_put_2_3 : cJ1_put_2.data.toList.drop 71 = dktJ1_put_2_3 := dk_seg dksJ1_put_2_2 24 rfl rfl
theorem dksJ1_put_2_4 : cJ1_put_2.data.toList.drop 95 = dktJ1_put_2_4 := dk_seg dksJ1_put_2_3 24 rfl rfl
theorem dksJ1_put_2_5 : cJ1_put_2.data.toList.drop 118 = dktJ1_put_2_5 := dk_seg dksJ1_put_2_4 23 rfl rfl
theorem dksJ1_put_2_6 : cJ1_put_2.data.toList.drop 141 = dktJ1_put_2_6 := dk_seg dksJ1_put_2_5 23 rfl rfl
theorem dksJ1_put_2_7 : cJ1_put_2.data.toList.drop 163 = dktJ1_put_2_7 := dk_seg dksJ1_put_2_6 22 rfl rfl
theorem dksJ1_put_2_8 : cJ1_put_2.data.toList.drop 187 = dktJ1_put_2_8 := dk_seg dksJ1_put_2_7 24 rfl rfl
theorem dksJ1_put_2_9 : cJ1_put_2.data.toList.drop 211 = dktJ1_put_2_9 := dk_seg dksJ1_put_2_8 24 rfl rfl
theorem dJ1_put_2_0 : decode cJ1_put_2 0 = .ok (.aload_n 0, 1) := dk_42 (dk_at dksJ1_put_2_0 0 rfl rfl)
theorem dJ1_put_2_1 : decode cJ1_put_2 1 = .ok (.getfield 101, 3) := dk_180 0 101 (dk_at dksJ1_put_2_0 1 rfl rfl)
theorem dJ1_put_2_4 : decode cJ1_put_2 4 = .ok (.astore 4, 2) := dk_58 4 (dk_at dksJ1_put_2_0 4 rfl rfl)
theorem dJ1_put_2_6 : decode cJ1_put_2 6 = .ok (.aload 4, 2) := dk_25 4 (dk_at dksJ1_put_2_0 6 rfl rfl)
theorem dJ1_put_2_8 : decode cJ1_put_2 8 = .ok (.ifnonnull 11, 3) := dk_199 0 11 (dk_at dksJ1_put_2_0 8 rfl rfl)
theorem dJ1_put_2_11 : decode cJ1_put_2 11 = .ok (.aload_n 0, 1) := dk_42 (dk_at dksJ1_put_2_0 11 rfl rfl)
theorem dJ1_put_2_12 : decode cJ1_put_2 12 = .ok (.aload_n 1, 1) := dk_43 (dk_at dksJ1_put_2_0 12 rfl rfl)
theorem dJ1_put_2_13 : decode cJ1_put_2 13 = .ok (.aload_n 2, 1) := dk_44 (dk_at dksJ1_put_2_0 13 rfl rfl)
theorem dJ1_put_2_14 : decode cJ1_put_2 14 = .ok (.invokevirtual 135, 3) := dk_182 0 135 (dk_at dksJ1_put_2_0 14 rfl rfl)
theorem dJ1_put_2_17 : decode cJ1_put_2 17 = .ok (.aconst_null, 1) := dk_1 (dk_at dksJ1_put_2_0 17 rfl rfl)
theorem dJ1_put_2_18 : decode cJ1_put_2 18 = .ok (.areturn, 1) := dk_176 (dk_at dksJ1_put_2_0 18 rfl rfl)
theorem dJ1_put_2_19 : decode cJ1_put_2 19 = .ok (.aload_n 0, 1) := dk_42 (dk_at dksJ1_put_2_0 19 rfl rfl)
theorem dJ1_put_2_20 : decode cJ1_put_2 20 = .ok (.getfield 16, 3) := dk_180 0 16 (dk_at dksJ1_put_2_0 20 rfl rfl)
theorem dJ1_put_2_23 : decode cJ1_put_2 23 = .ok (.astore 7, 2) := dk_58 7 (dk_at dksJ1_put_2_1 0 rfl rfl)
theorem dJ1_put_2_25 : decode cJ1_put_2 25 = .ok (.aload 7, 2) := dk_25 7 (dk_at dksJ1_put_2_1 2 rfl rfl)
theorem dJ1_put_2_27 : decode cJ1_put_2 27 = .ok (.ifnull 85, 3) := dk_198 0 85 (dk_at dksJ1_put_2_1 4 rfl rfl)
theorem dJ1_put_2_30 : decode cJ1_put_2 30 = .ok (.aload 4, 2) := dk_25 4 (dk_at dksJ1_put_2_1 7 rfl rfl)
theorem dJ1_put_2_32 : decode cJ1_put_2 32 = .ok (.astore 6, 2) := dk_58 6 (dk_at dksJ1_put_2_1 9 rfl rfl)
theorem dJ1_put_2_34 : decode cJ1_put_2 34 = .ok (.aload 7, 2) := dk_25 7 (dk_at dksJ1_put_2_1 11 rfl rfl)
theorem dJ1_put_2_36 : decode cJ1_put_2 36 = .ok (.aload_n 1, 1) := dk_43 (dk_at dksJ1_put_2_1 13 rfl rfl)
theorem dJ1_put_2_37 : decode cJ1_put_2 37 = .ok (.aload 4, 2) := dk_25 4 (dk_at dksJ1_put_2_1 14 rfl rfl)
theorem dJ1_put_2_39 : decode cJ1_put_2 39 = .ok (.getfield 105, 3) := dk_180 0 105 (dk_at dksJ1_put_2_1 16 rfl rfl)
theorem dJ1_put_2_42 : decode cJ1_put_2 42 = .ok (.invokeinterface 117 3, 5) := by decide +kernel
theorem dJ1_put_2_47 : decode cJ1_put_2 47 = .ok (.istore 5, 2) := dk_54 5 (dk_at dksJ1_put_2_2 0 rfl rfl)
theorem dJ1_put_2_49 : decode cJ1_put_2 49 = .ok (.iload 5, 2) := dk_21 5 (dk_at dksJ1_put_2_2 2 rfl rfl)
theorem dJ1_put_2_51 : decode cJ1_put_2 51 = .ok (.ifCond .ge 13, 3) := dk_156 0 13 (dk_at dksJ1_put_2_2 4 rfl rfl)
theorem dJ1_put_2_54 : decode cJ1_put_2 54 = .ok (.aload 4, 2) := dk_25 4 (dk_at dksJ1_put_2_2 7 rfl rfl)
theorem dJ1_put_2_56 : decode cJ1_put_2 56 = .ok (.getfield 111, 3) := dk_180 0 111 (dk_at dksJ1_put_2_2 9 rfl rfl)
theorem dJ1_put_2_59 : decode cJ1_put_2 59 = .ok (.astore 4, 2) := dk_58 4 (dk_at dksJ1_put_2_2 12 rfl rfl)
theorem dJ1_put_2_61 : decode cJ1_put_2 61 = .ok (.goto 43, 3) := dk_167 0 43 (dk_at dksJ1_put_2_2 14 rfl rfl)
theorem dJ1_put_2_64 : decode cJ1_put_2 64 = .ok (.iload 5, 2) := dk_21 5 (dk_at dksJ1_put_2_2 17 rfl rfl)
theorem dJ1_put_2_66 : decode cJ1_put_2 66 = .ok (.ifCond .le 13, 3) := dk_158 0 13 (dk_at dksJ1_put_2_2 19 rfl rfl)
theorem dJ1_put_2_69 : decode cJ1_put_2 69 = .ok (.aload 4, 2) := dk_25 4 (dk_at dksJ1_put_2_2 22 rfl rfl)
theorem dJ1_put_2_71 : decode cJ1_put_2 71 = .ok (.getfield 114, 3) := dk_180 0 114 (dk_at dksJ1_put_2_3 0 rfl rfl)
theorem dJ1_put_2_74 : decode cJ1_put_2 74 = .ok (.astore 4, 2) := dk_58 4 (dk_at dksJ1_put_2_3 3 rfl rfl)
theorem dJ1_put_2_76 : decode cJ1_put_2 76 = .ok (.goto 28, 3) := dk_167 0 28 (dk_at dksJ1_put_2_3 5 rfl rfl)
theorem dJ1_put_2_79 : decode cJ1_put_2 79 = .ok (.aload 4, 2) := dk_25 4 (dk_at dksJ1_put_2_3 8 rfl rfl)
theorem dJ1_put_2_81 : decode cJ1_put_2 81 = .ok (.getfield 58, 3) := dk_180 0 58 (dk_at dksJ1_put_2_3 10 rfl rfl)
theorem dJ1_put_2_84 : decode cJ1_put_2 84 = .ok (.astore 8, 2) := dk_58 8 (dk_at dksJ1_put_2_3 13 rfl rfl)
theorem dJ1_put_2_86 : decode cJ1_put_2 86 = .ok (.iload_n 3, 1) := dk_29 (dk_at dksJ1_put_2_3 15 rfl rfl)
theorem dJ1_put_2_87 : decode cJ1_put_2 87 = .ok (.ifCond .ne 8, 3) := dk_154 0 8 (dk_at dksJ1_put_2_3 16 rfl rfl)
theorem dJ1_put_2_90 : decode cJ1_put_2 90 = .ok (.aload 8, 2) := dk_25 8 (dk_at dksJ1_put_2_3 19 rfl rfl)
theorem dJ1_put_2_92 : decode cJ1_put_2 92 = .ok (.ifnonnull 9, 3) := dk_199 0 9 (dk_at dksJ1_put_2_3 21 rfl rfl)
theorem dJ1_put_2_95 : decode cJ1_put_2 95 = .ok (.aload 4, 2) := dk_25 4 (dk_at dksJ1_put_2_4 0 rfl rfl)
theorem dJ1_put_2_97 : decode cJ1_put_2 97 = .ok (.aload_n 2, 1) := dk_44 (dk_at dksJ1_put_2_4 2 rfl rfl)
theorem dJ1_put_2_98 : decode cJ1_put_2 98 = .ok (.putfield 58, 3) := dk_181 0 58 (dk_at dksJ1_put_2_4 3 rfl rfl)
theorem dJ1_put_2_101 : decode cJ1_put_2 101 = .ok (.aload 8, 2) := dk_25 8 (dk_at dksJ1_put_2_4 6 rfl rfl)
theorem dJ1_put_2_103 : decode cJ1_put_2 103 = .ok (.areturn, 1) := dk_176 (dk_at dksJ1_put_2_4 8 rfl rfl)
theorem dJ1_put_2_104 : decode cJ1_put_2 104 = .ok (.aload 4, 2) := dk_25 4 (dk_at dksJ1_put_2_4 9 rfl rfl)
theorem dJ1_put_2_106 : decode cJ1_put_2 106 = .ok (.ifnonnull (-76), 3) := dk_199 255 180 (dk_at dksJ1_put_2_4 11 rfl rfl)
theorem dJ1_put_2_109 : decode cJ1_put_2 109 = .ok (.goto 92, 3) := dk_167 0 92 (dk_at dksJ1_put_2_4 14 rfl rfl)
theorem dJ1_put_2_112 : decode cJ1_put_2 112 = .ok (.aload_n 1, 1) := dk_43 (dk_at dksJ1_put_2_4 17 rfl rfl)
theorem dJ1_put_2_113 : decode cJ1_put_2 113 = .ok (.invokestatic 95, 3) := dk_184 0 95 (dk_at dksJ1_put_2_4 18 rfl rfl)
theorem dJ1_put_2_116 : decode cJ1_put_2 116 = .ok (.pop, 1) := dk_87 (dk_at dksJ1_put_2_4 21 rfl rfl)
theorem dJ1_put_2_117 : decode cJ1_put_2 117 = .ok (.aload_n 1, 1) := dk_43 (dk_at dksJ1_put_2_4 22 rfl rfl)
theorem dJ1_put_2_118 : decode cJ1_put_2 118 = .ok (.checkcast 99, 3) := dk_192 0 99 (dk_at dksJ1_put_2_5 0 rfl rfl)
theorem dJ1_put_2_121 : decode cJ1_put_2 121 = .ok (.astore 8, 2) := dk_58 8 (dk_at dksJ1_put_2_5 3 rfl rfl)
theorem dJ1_put_2_123 : decode cJ1_put_2 123 = .ok (.aload 4, 2) := dk_25 4 (dk_at dksJ1_put_2_5 5 rfl rfl)
theorem dJ1_put_2_125 : decode cJ1_put_2 125 = .ok (.astore 6, 2) := dk_58 6 (dk_at dksJ1_put_2_5 7 rfl rfl)
theorem dJ1_put_2_127 : decode cJ1_put_2 127 = .ok (.aload 8, 2) := dk_25 8 (dk_at dksJ1_put_2_5 9 rfl rfl)
theorem dJ1_put_2_129 : decode cJ1_put_2 129 = .ok (.aload 4, 2) := dk_25 4 (dk_at dksJ1_put_2_5 11 rfl rfl)
theorem dJ1_put_2_131 : decode cJ1_put_2 131 = .ok (.getfield 105, 3) := dk_180 0 105 (dk_at dksJ1_put_2_5 13 rfl rfl)
theorem dJ1_put_2_134 : decode cJ1_put_2 134 = .ok (.invokeinterface 107 2, 5) := by decide +kernel
theorem dJ1_put_2_139 : decode cJ1_put_2 139 = .ok (.istore 5, 2) := dk_54 5 (dk_at dksJ1_put_2_5 21 rfl rfl)
theorem dJ1_put_2_141 : decode cJ1_put_2 141 = .ok (.iload 5, 2) := dk_21 5 (dk_at dksJ1_put_2_6 0 rfl rfl)
theorem dJ1_put_2_143 : decode cJ1_put_2 143 = .ok (.ifCond .ge 13, 3) := dk_156 0 13 (dk_at dksJ1_put_2_6 2 rfl rfl)
theorem dJ1_put_2_146 : decode cJ1_put_2 146 = .ok (.aload 4, 2) := dk_25 4 (dk_at dksJ1_put_2_6 5 rfl rfl)
theorem dJ1_put_2_148 : decode cJ1_put_2 148 = .ok (.getfield 111, 3) := dk_180 0 111 (dk_at dksJ1_put_2_6 7 rfl rfl)
theorem dJ1_put_2_151 : decode cJ1_put_2 151 = .ok (.astore 4, 2) := dk_58 4 (dk_at dksJ1_put_2_6 10 rfl rfl)
theorem dJ1_put_2_153 : decode cJ1_put_2 153 = .ok (.goto 43, 3) := dk_167 0 43 (dk_at dksJ1_put_2_6 12 rfl rfl)
theorem dJ1_put_2_156 : decode cJ1_put_2 156 = .ok (.iload 5, 2) := dk_21 5 (dk_at dksJ1_put_2_6 15 rfl rfl)
theorem dJ1_put_2_158 : decode cJ1_put_2 158 = .ok (.ifCond .le 13, 3) := dk_158 0 13 (dk_at dksJ1_put_2_6 17 rfl rfl)
theorem dJ1_put_2_161 : decode cJ1_put_2 161 = .ok (.aload 4, 2) := dk_25 4 (dk_at dksJ1_put_2_6 20 rfl rfl)
theorem dJ1_put_2_163 : decode cJ1_put_2 163 = .ok (.getfield 114, 3) := dk_180 0 114 (dk_at dksJ1_put_2_7 0 rfl rfl)
theorem dJ1_put_2_166 : decode cJ1_put_2 166 = .ok (.astore 4, 2) := dk_58 4 (dk_at dksJ1_put_2_7 3 rfl rfl)
theorem dJ1_put_2_168 : decode cJ1_put_2 168 = .ok (.goto 28, 3) := dk_167 0 28 (dk_at dksJ1_put_2_7 5 rfl rfl)
theorem dJ1_put_2_171 : decode cJ1_put_2 171 = .ok (.aload 4, 2) := dk_25 4 (dk_at dksJ1_put_2_7 8 rfl rfl)
theorem dJ1_put_2_173 : decode cJ1_put_2 173 = .ok (.getfield 58, 3) := dk_180 0 58 (dk_at dksJ1_put_2_7 10 rfl rfl)
theorem dJ1_put_2_176 : decode cJ1_put_2 176 = .ok (.astore 9, 2) := dk_58 9 (dk_at dksJ1_put_2_7 13 rfl rfl)
theorem dJ1_put_2_178 : decode cJ1_put_2 178 = .ok (.iload_n 3, 1) := dk_29 (dk_at dksJ1_put_2_7 15 rfl rfl)
theorem dJ1_put_2_179 : decode cJ1_put_2 179 = .ok (.ifCond .ne 8, 3) := dk_154 0 8 (dk_at dksJ1_put_2_7 16 rfl rfl)
theorem dJ1_put_2_182 : decode cJ1_put_2 182 = .ok (.aload 9, 2) := dk_25 9 (dk_at dksJ1_put_2_7 19 rfl rfl)
theorem dJ1_put_2_184 : decode cJ1_put_2 184 = .ok (.ifnonnull 9, 3) := dk_199 0 9 (dk_at dksJ1_put_2_7 21 rfl rfl)
theorem dJ1_put_2_187 : decode cJ1_put_2 187 = .ok (.aload 4, 2) := dk_25 4 (dk_at dksJ1_put_2_8 0 rfl rfl)
theorem dJ1_put_2_189 : decode cJ1_put_2 189 = .ok (.aload_n 2, 1) := dk_44 (dk_at dksJ1_put_2_8 2 rfl rfl)
theorem dJ1_put_2_190 : decode cJ1_put_2 190 = .ok (.putfield 58, 3) := dk_181 0 58 (dk_at dksJ1_put_2_8 3 rfl rfl)
theorem dJ1_put_2_193 : decode cJ1_put_2 193 = .ok (.aload 9, 2) := dk_25 9 (dk_at dksJ1_put_2_8 6 rfl rfl)
theorem dJ1_put_2_195 : decode cJ1_put_2 195 = .ok (.areturn, 1) := dk_176 (dk_at dksJ1_put_2_8 8 rfl rfl)
theorem dJ1_put_2_196 : decode cJ1_put_2 196 = .ok (.aload 4, 2) := dk_25 4 (dk_at dksJ1_put_2_8 9 rfl rfl)
theorem dJ1_put_2_198 : decode cJ1_put_2 198 = .ok (.ifnonnull (-75), 3) := dk_199 255 181 (dk_at dksJ1_put_2_8 11 rfl rfl)
theorem dJ1_put_2_201 : decode cJ1_put_2 201 = .ok (.aload_n 0, 1) := dk_42 (dk_at dksJ1_put_2_8 14 rfl rfl)
theorem dJ1_put_2_202 : decode cJ1_put_2 202 = .ok (.aload_n 1, 1) := dk_43 (dk_at dksJ1_put_2_8 15 rfl rfl)
theorem dJ1_put_2_203 : decode cJ1_put_2 203 = .ok (.aload_n 2, 1) := dk_44 (dk_at dksJ1_put_2_8 16 rfl rfl)
theorem dJ1_put_2_204 : decode cJ1_put_2 204 = .ok (.aload 6, 2) := dk_25 6 (dk_at dksJ1_put_2_8 17 rfl rfl)
theorem dJ1_put_2_206 : decode cJ1_put_2 206 = .ok (.iload 5, 2) := dk_21 5 (dk_at dksJ1_put_2_8 19 rfl rfl)
theorem dJ1_put_2_208 : decode cJ1_put_2 208 = .ok (.ifCond .ge 7, 3) := dk_156 0 7 (dk_at dksJ1_put_2_8 21 rfl rfl)
theorem dJ1_put_2_211 : decode cJ1_put_2 211 = .ok (.iconst 1, 1) := dk_4 (dk_at dksJ1_put_2_9 0 rfl rfl)
theorem dJ1_put_2_212 : decode cJ1_put_2 212 = .ok (.goto 4, 3) := dk_167 0 4 (dk_at dksJ1_put_2_9 1 rfl rfl)
theorem dJ1_put_2_215 : decode cJ1_put_2 215 = .ok (.iconst 0, 1) := dk_3 (dk_at dksJ1_put_2_9 4 rfl rfl)
theorem dJ1_put_2_216 : decode cJ1_put_2 216 = .ok (.invokevirtual 139, 3) := dk_182 0 139 (dk_at dksJ1_put_2_9 5 rfl rfl)
theorem dJ1_put_2_219 : decode cJ1_put_2 219 = .ok (.aconst_null, 1) := dk_1 (dk_at dksJ1_put_2_9 8 rfl rfl)
theorem dJ1_put_2_220 : decode cJ1_put_2 220 = .ok (.areturn, 1) := dk_176 (dk_at dksJ1_put_2_9 9 rfl rfl)
abbrev cJ1_addEntryToEmptyMap : ByteArray := prog_82_method_30_code
def yJ1_addEntryToEmptyMap : MethodName := ⟨RJ1, "addEntryToEmptyMap", "(Ljava/lang/Object;Ljava/lang/Object;)V"⟩
def dkwJ1_addEntryToEmptyMap_1 : List UInt8 := [181, 0, 7, 42, 89, 180, 0, 13, 4, 96, 181, 0, 13, 177]
abbrev dktJ1_addEntryToEmptyMap_1 : List UInt8 := dkwJ1_addEntryToEmptyMap_1 ++ []
def dkwJ1_addEntryToEmptyMap_0 : List UInt8 := [42, 43, 43, 182, 0, 123, 87, 42, 187, 0, 59, 89, 43, 44, 1, 183, 0, 167, 181, 0, 101, 42, 4]
abbrev dktJ1_addEntryToEmptyMap_0 : List UInt8 := dkwJ1_addEntryToEmptyMap_0 ++ dktJ1_addEntryToEmptyMap_1
theorem dksJ1_addEntryToEmptyMap_0 : cJ1_addEntryToEmptyMap.data.toList.drop 0 = dktJ1_addEntryToEmptyMap_0 := by decide +kernel
theorem dksJ1_addEntryToEmptyMap_1 : cJ1_addEntryToEmptyMap.data.toList.drop 23 = dktJ1_addEntryToEmptyMap_1 := dk_seg dksJ1_addEntryToEmptyMap_0 23 rfl rfl
theorem dJ1_addEntryToEmptyMap_0 : decode cJ1_addEntryToEmptyMap 0 = .ok (.aload_n 0, 1) := dk_42 (dk_at dksJ1_addEntryToEmptyMap_0 0 rfl rfl)
theorem dJ1_addEntryToEmptyMap_1 : decode cJ1_addEntryToEmptyMap 1 = .ok (.aload_n 1, 1) := dk_43 (dk_at dksJ1_addEntryToEmptyMap_0 1 rfl rfl)
theorem dJ1_addEntryToEmptyMap_2 : decode cJ1_addEntryToEmptyMap 2 = .ok (.aload_n 1, 1) := dk_43 (dk_at dksJ1_addEntryToEmptyMap_0 2 rfl rfl)
theorem dJ1_addEntryToEmptyMap_3 : decode cJ1_addEntryToEmptyMap 3 = .ok (.invokevirtual 123, 3) := dk_182 0 123 (dk_at dksJ1_addEntryToEmptyMap_0 3 rfl rfl)
theorem dJ1_addEntryToEmptyMap_6 : decode cJ1_addEntryToEmptyMap 6 = .ok (.pop, 1) := dk_87 (dk_at dksJ1_addEntryToEmptyMap_0 6 rfl rfl)
theorem dJ1_addEntryToEmptyMap_7 : decode cJ1_addEntryToEmptyMap 7 = .ok (.aload_n 0, 1) := dk_42 (dk_at dksJ1_addEntryToEmptyMap_0 7 rfl rfl)
theorem dJ1_addEntryToEmptyMap_8 : decode cJ1_addEntryToEmptyMap 8 = .ok (.new 59, 3) := dk_187 0 59 (dk_at dksJ1_addEntryToEmptyMap_0 8 rfl rfl)
theorem dJ1_addEntryToEmptyMap_11 : decode cJ1_addEntryToEmptyMap 11 = .ok (.dup, 1) := dk_89 (dk_at dksJ1_addEntryToEmptyMap_0 11 rfl rfl)
theorem dJ1_addEntryToEmptyMap_12 : decode cJ1_addEntryToEmptyMap 12 = .ok (.aload_n 1, 1) := dk_43 (dk_at dksJ1_addEntryToEmptyMap_0 12 rfl rfl)
theorem dJ1_addEntryToEmptyMap_13 : decode cJ1_addEntryToEmptyMap 13 = .ok (.aload_n 2, 1) := dk_44 (dk_at dksJ1_addEntryToEmptyMap_0 13 rfl rfl)
theorem dJ1_addEntryToEmptyMap_14 : decode cJ1_addEntryToEmptyMap 14 = .ok (.aconst_null, 1) := dk_1 (dk_at dksJ1_addEntryToEmptyMap_0 14 rfl rfl)
theorem dJ1_addEntryToEmptyMap_15 : decode cJ1_addEntryToEmptyMap 15 = .ok (.invokespecial 167, 3) := dk_183 0 167 (dk_at dksJ1_addEntryToEmptyMap_0 15 rfl rfl)
theorem dJ1_addEntryToEmptyMap_18 : decode cJ1_addEntryToEmptyMap 18 = .ok (.putfield 101, 3) := dk_181 0 101 (dk_at dksJ1_addEntryToEmptyMap_0 18 rfl rfl)
theorem dJ1_addEntryToEmptyMap_21 : decode cJ1_addEntryToEmptyMap 21 = .ok (.aload_n 0, 1) := dk_42 (dk_at dksJ1_addEntryToEmptyMap_0 21 rfl rfl)
theorem dJ1_addEntryToEmptyMap_22 : decode cJ1_addEntryToEmptyMap 22 = .ok (.iconst 1, 1) := dk_4 (dk_at dksJ1_addEntryToEmptyMap_0 22 rfl rfl)
theorem dJ1_addEntryToEmptyMap_23 : decode cJ1_addEntryToEmptyMap 23 = .ok (.putfield 7, 3) := dk_181 0 7 (dk_at dksJ1_addEntryToEmptyMap_1 0 rfl rfl)
theorem dJ1_addEntryToEmptyMap_26 : decode cJ1_addEntryToEmptyMap 26 = .ok (.aload_n 0, 1) := dk_42 (dk_at dksJ1_addEntryToEmptyMap_1 3 rfl rfl)
theorem dJ1_addEntryToEmptyMap_27 : decode cJ1_addEntryToEmptyMap 27 = .ok (.dup, 1) := dk_89 (dk_at dksJ1_addEntryToEmptyMap_1 4 rfl rfl)
theorem dJ1_addEntryToEmptyMap_28 : decode cJ1_addEntryToEmptyMap 28 = .ok (.getfield 13, 3) := dk_180 0 13 (dk_at dksJ1_addEntryToEmptyMap_1 5 rfl rfl)
theorem dJ1_addEntryToEmptyMap_31 : decode cJ1_addEntryToEmptyMap 31 = .ok (.iconst 1, 1) := dk_4 (dk_at dksJ1_addEntryToEmptyMap_1 8 rfl rfl)
theorem dJ1_addEntryToEmptyMap_32 : decode cJ1_addEntryToEmptyMap 32 = .ok (.iadd, 1) := dk_96 (dk_at dksJ1_addEntryToEmptyMap_1 9 rfl rfl)
theorem dJ1_addEntryToEmptyMap_33 : decode cJ1_addEntryToEmptyMap 33 = .ok (.putfield 13, 3) := dk_181 0 13 (dk_at dksJ1_addEntryToEmptyMap_1 10 rfl rfl)
theorem dJ1_addEntryToEmptyMap_36 : decode cJ1_addEntryToEmptyMap 36 = .ok (.return_, 1) := dk_177 (dk_at dksJ1_addEntryToEmptyMap_1 13 rfl rfl)
abbrev cJ1_compare : ByteArray := prog_82_method_67_code
def yJ1_compare : MethodName := ⟨RJ1, "compare", "(Ljava/lang/Object;Ljava/lang/Object;)I"⟩
def dkwJ1_compare_1 : List UInt8 := [43, 44, 185, 0, 117, 3, 0, 172]
abbrev dktJ1_compare_1 : List UInt8 := dkwJ1_compare_1 ++ []
def dkwJ1_compare_0 : List UInt8 := [42, 180, 0, 16, 199, 0, 16, 43, 192, 0, 99, 44, 185, 0, 107, 2, 0, 167, 0, 14, 42, 180, 0, 16]
abbrev dktJ1_compare_0 : List UInt8 := dkwJ1_compare_0 ++ dktJ1_compare_1
theorem dksJ1_compare_0 : cJ1_compare.data.toList.drop 0 = dktJ1_compare_0 := by decide +kernel
theorem dksJ1_compare_1 : cJ1_compare.data.toList.drop 24 = dktJ1_compare_1 := dk_seg dksJ1_compare_0 24 rfl rfl
theorem dJ1_compare_0 : decode cJ1_compare 0 = .ok (.aload_n 0, 1) := dk_42 (dk_at dksJ1_compare_0 0 rfl rfl)
theorem dJ1_compare_1 : decode cJ1_compare 1 = .ok (.getfield 16, 3) := dk_180 0 16 (dk_at dksJ1_compare_0 1 rfl rfl)
theorem dJ1_compare_4 : decode cJ1_compare 4 = .ok (.ifnonnull 16, 3) := dk_199 0 16 (dk_at dksJ1_compare_0 4 rfl rfl)
theorem dJ1_compare_7 : decode cJ1_compare 7 = .ok (.aload_n 1, 1) := dk_43 (dk_at dksJ1_compare_0 7 rfl rfl)
theorem dJ1_compare_8 : decode cJ1_compare 8 = .ok (.checkcast 99, 3) := dk_192 0 99 (dk_at dksJ1_compare_0 8 rfl rfl)
theorem dJ1_compare_11 : decode cJ1_compare 11 = .ok (.aload_n 2, 1) := dk_44 (dk_at dksJ1_compare_0 11 rfl rfl)
theorem dJ1_compare_12 : decode cJ1_compare 12 = .ok (.invokeinterface 107 2, 5) := by decide +kernel
theorem dJ1_compare_17 : decode cJ1_compare 17 = .ok (.goto 14, 3) := dk_167 0 14 (dk_at dksJ1_compare_0 17 rfl rfl)
theorem dJ1_compare_20 : decode cJ1_compare 20 = .ok (.aload_n 0, 1) := dk_42 (dk_at dksJ1_compare_0 20 rfl rfl)
theorem dJ1_compare_21 : decode cJ1_compare 21 = .ok (.getfield 16, 3) := dk_180 0 16 (dk_at dksJ1_compare_0 21 rfl rfl)
theorem dJ1_compare_24 : decode cJ1_compare 24 = .ok (.aload_n 1, 1) := dk_43 (dk_at dksJ1_compare_1 0 rfl rfl)
theorem dJ1_compare_25 : decode cJ1_compare 25 = .ok (.aload_n 2, 1) := dk_44 (dk_at dksJ1_compare_1 1 rfl rfl)
theorem dJ1_compare_26 : decode cJ1_compare 26 = .ok (.invokeinterface 117 3, 5) := by decide +kernel
theorem dJ1_compare_31 : decode cJ1_compare 31 = .ok (.ireturn, 1) := dk_172 (dk_at dksJ1_compare_1 7 rfl rfl)
abbrev cJ1_addEntry : ByteArray := prog_82_method_29_code
def yJ1_addEntry : MethodName := ⟨RJ1, "addEntry", "(Ljava/lang/Object;Ljava/lang/Object;Ljava/util/TreeMap$Entry;Z)V"⟩
def dkwJ1_addEntry_2 : List UInt8 := [181, 0, 7, 42, 89, 180, 0, 13, 4, 96, 181, 0, 13, 177]
abbrev dktJ1_addEntry_2 : List UInt8 := dkwJ1_addEntry_2 ++ []
def dkwJ1_addEntry_1 : List UInt8 := [167, 0, 9, 45, 25, 5, 181, 0, 114, 42, 25, 5, 182, 0, 170, 42, 89, 180, 0, 7, 4, 96]
abbrev dktJ1_addEntry_1 : List UInt8 := dkwJ1_addEntry_1 ++ dktJ1_addEntry_2
def dkwJ1_addEntry_0 : List UInt8 := [187, 0, 59, 89, 43, 44, 45, 183, 0, 167, 58, 5, 21, 4, 153, 0, 12, 45, 25, 5, 181, 0, 111]
abbrev dktJ1_addEntry_0 : List UInt8 := dkwJ1_addEntry_0 ++ dktJ1_addEntry_1
theorem dksJ1_addEntry_0 : cJ1_addEntry.data.toList.drop 0 = dktJ1_addEntry_0 := by decide +kernel
theorem dksJ1_addEntry_1 : cJ1_addEntry.data.toList.drop 23 = dktJ1_addEntry_1 := dk_seg dksJ1_addEntry_0 23 rfl rfl
theorem dksJ1_addEntry_2 : cJ1_addEntry.data.toList.drop 45 = dktJ1_addEntry_2 := dk_seg dksJ1_addEntry_1 22 rfl rfl
theorem dJ1_addEntry_0 : decode cJ1_addEntry 0 = .ok (.new 59, 3) := dk_187 0 59 (dk_at dksJ1_addEntry_0 0 rfl rfl)
theorem dJ1_addEntry_3 : decode cJ1_addEntry 3 = .ok (.dup, 1) := dk_89 (dk_at dksJ1_addEntry_0 3 rfl rfl)
theorem dJ1_addEntry_4 : decode cJ1_addEntry 4 = .ok (.aload_n 1, 1) := dk_43 (dk_at dksJ1_addEntry_0 4 rfl rfl)
theorem dJ1_addEntry_5 : decode cJ1_addEntry 5 = .ok (.aload_n 2, 1) := dk_44 (dk_at dksJ1_addEntry_0 5 rfl rfl)
theorem dJ1_addEntry_6 : decode cJ1_addEntry 6 = .ok (.aload_n 3, 1) := dk_45 (dk_at dksJ1_addEntry_0 6 rfl rfl)
theorem dJ1_addEntry_7 : decode cJ1_addEntry 7 = .ok (.invokespecial 167, 3) := dk_183 0 167 (dk_at dksJ1_addEntry_0 7 rfl rfl)
theorem dJ1_addEntry_10 : decode cJ1_addEntry 10 = .ok (.astore 5, 2) := dk_58 5 (dk_at dksJ1_addEntry_0 10 rfl rfl)
theorem dJ1_addEntry_12 : decode cJ1_addEntry 12 = .ok (.iload 4, 2) := dk_21 4 (dk_at dksJ1_addEntry_0 12 rfl rfl)
theorem dJ1_addEntry_14 : decode cJ1_addEntry 14 = .ok (.ifCond .eq 12, 3) := dk_153 0 12 (dk_at dksJ1_addEntry_0 14 rfl rfl)
theorem dJ1_addEntry_17 : decode cJ1_addEntry 17 = .ok (.aload_n 3, 1) := dk_45 (dk_at dksJ1_addEntry_0 17 rfl rfl)
theorem dJ1_addEntry_18 : decode cJ1_addEntry 18 = .ok (.aload 5, 2) := dk_25 5 (dk_at dksJ1_addEntry_0 18 rfl rfl)
theorem dJ1_addEntry_20 : decode cJ1_addEntry 20 = .ok (.putfield 111, 3) := dk_181 0 111 (dk_at dksJ1_addEntry_0 20 rfl rfl)
theorem dJ1_addEntry_23 : decode cJ1_addEntry 23 = .ok (.goto 9, 3) := dk_167 0 9 (dk_at dksJ1_addEntry_1 0 rfl rfl)
theorem dJ1_addEntry_26 : decode cJ1_addEntry 26 = .ok (.aload_n 3, 1) := dk_45 (dk_at dksJ1_addEntry_1 3 rfl rfl)
theorem dJ1_addEntry_27 : decode cJ1_addEntry 27 = .ok (.aload 5, 2) := dk_25 5 (dk_at dksJ1_addEntry_1 4 rfl rfl)
theorem dJ1_addEntry_29 : decode cJ1_addEntry 29 = .ok (.putfield 114, 3) := dk_181 0 114 (dk_at dksJ1_addEntry_1 6 rfl rfl)
theorem dJ1_addEntry_32 : decode cJ1_addEntry 32 = .ok (.aload_n 0, 1) := dk_42 (dk_at dksJ1_addEntry_1 9 rfl rfl)
theorem dJ1_addEntry_33 : decode cJ1_addEntry 33 = .ok (.aload 5, 2) := dk_25 5 (dk_at dksJ1_addEntry_1 10 rfl rfl)
theorem dJ1_addEntry_35 : decode cJ1_addEntry 35 = .ok (.invokevirtual 170, 3) := dk_182 0 170 (dk_at dksJ1_addEntry_1 12 rfl rfl)
theorem dJ1_addEntry_38 : decode cJ1_addEntry 38 = .ok (.aload_n 0, 1) := dk_42 (dk_at dksJ1_addEntry_1 15 rfl rfl)
theorem dJ1_addEntry_39 : decode cJ1_addEntry 39 = .ok (.dup, 1) := dk_89 (dk_at dksJ1_addEntry_1 16 rfl rfl)
theorem dJ1_addEntry_40 : decode cJ1_addEntry 40 = .ok (.getfield 7, 3) := dk_180 0 7 (dk_at dksJ1_addEntry_1 17 rfl rfl)
theorem dJ1_addEntry_43 : decode cJ1_addEntry 43 = .ok (.iconst 1, 1) := dk_4 (dk_at dksJ1_addEntry_1 20 rfl rfl)
theorem dJ1_addEntry_44 : decode cJ1_addEntry 44 = .ok (.iadd, 1) := dk_96 (dk_at dksJ1_addEntry_1 21 rfl rfl)
theorem dJ1_addEntry_45 : decode cJ1_addEntry 45 = .ok (.putfield 7, 3) := dk_181 0 7 (dk_at dksJ1_addEntry_2 0 rfl rfl)
theorem dJ1_addEntry_48 : decode cJ1_addEntry 48 = .ok (.aload_n 0, 1) := dk_42 (dk_at dksJ1_addEntry_2 3 rfl rfl)
theorem dJ1_addEntry_49 : decode cJ1_addEntry 49 = .ok (.dup, 1) := dk_89 (dk_at dksJ1_addEntry_2 4 rfl rfl)
theorem dJ1_addEntry_50 : decode cJ1_addEntry 50 = .ok (.getfield 13, 3) := dk_180 0 13 (dk_at dksJ1_addEntry_2 5 rfl rfl)
theorem dJ1_addEntry_53 : decode cJ1_addEntry 53 = .ok (.iconst 1, 1) := dk_4 (dk_at dksJ1_addEntry_2 8 rfl rfl)
theorem dJ1_addEntry_54 : decode cJ1_addEntry 54 = .ok (.iadd, 1) := dk_96 (dk_at dksJ1_addEntry_2 9 rfl rfl)
theorem dJ1_addEntry_55 : decode cJ1_addEntry 55 = .ok (.putfield 13, 3) := dk_181 0 13 (dk_at dksJ1_addEntry_2 10 rfl rfl)
theorem dJ1_addEntry_58 : decode cJ1_addEntry 58 = .ok (.return_, 1) := dk_177 (dk_at dksJ1_addEntry_2 13 rfl rfl)
abbrev cJ1_fixAfterInsertion : ByteArray := prog_82_method_83_code
def yJ1_fixAfterInsertion : MethodName := ⟨RJ1, "fixAfterInsertion", "(Ljava/util/TreeMap$Entry;)V"⟩
def dkwJ1_fixAfterInsertion_11 : List UInt8 := [42, 180, 0, 101, 4, 181, 1, 34, 177]
abbrev dktJ1_fixAfterInsertion_11 : List UInt8 := dkwJ1_fixAfterInsertion_11 ++ []
def dkwJ1_fixAfterInsertion_10 : List UInt8 := [184, 1, 38, 184, 1, 38, 3, 184, 1, 51, 42, 43, 184, 1, 38, 184, 1, 38, 182, 1, 55, 167, 255, 6]
abbrev dktJ1_fixAfterInsertion_10 : List UInt8 := dkwJ1_fixAfterInsertion_10 ++ dktJ1_fixAfterInsertion_11
def dkwJ1_fixAfterInsertion_9 : List UInt8 := [166, 0, 13, 43, 184, 1, 38, 76, 42, 43, 182, 1, 58, 43, 184, 1, 38, 4, 184, 1, 51, 43]
abbrev dktJ1_fixAfterInsertion_9 : List UInt8 := dkwJ1_fixAfterInsertion_9 ++ dktJ1_fixAfterInsertion_10
def dkwJ1_fixAfterInsertion_8 : List UInt8 := [184, 1, 51, 43, 184, 1, 38, 184, 1, 38, 76, 167, 0, 54, 43, 43, 184, 1, 38, 184, 1, 41]
abbrev dktJ1_fixAfterInsertion_8 : List UInt8 := dkwJ1_fixAfterInsertion_8 ++ dktJ1_fixAfterInsertion_9
def dkwJ1_fixAfterInsertion_7 : List UInt8 := [154, 0, 38, 43, 184, 1, 38, 4, 184, 1, 51, 44, 4, 184, 1, 51, 43, 184, 1, 38, 184, 1, 38, 3]
abbrev dktJ1_fixAfterInsertion_7 : List UInt8 := dkwJ1_fixAfterInsertion_7 ++ dktJ1_fixAfterInsertion_8
def dkwJ1_fixAfterInsertion_6 : List UInt8 := [184, 1, 38, 182, 1, 58, 167, 255, 113, 43, 184, 1, 38, 184, 1, 38, 184, 1, 41, 77, 44, 184, 1, 47]
abbrev dktJ1_fixAfterInsertion_6 : List UInt8 := dkwJ1_fixAfterInsertion_6 ++ dktJ1_fixAfterInsertion_7
def dkwJ1_fixAfterInsertion_5 : List UInt8 := [43, 184, 1, 38, 4, 184, 1, 51, 43, 184, 1, 38, 184, 1, 38, 3, 184, 1, 51, 42, 43, 184, 1, 38]
abbrev dktJ1_fixAfterInsertion_5 : List UInt8 := dkwJ1_fixAfterInsertion_5 ++ dktJ1_fixAfterInsertion_6
def dkwJ1_fixAfterInsertion_4 : List UInt8 := [167, 0, 54, 43, 43, 184, 1, 38, 184, 1, 44, 166, 0, 13, 43, 184, 1, 38, 76, 42, 43, 182, 1, 55]
abbrev dktJ1_fixAfterInsertion_4 : List UInt8 := dkwJ1_fixAfterInsertion_4 ++ dktJ1_fixAfterInsertion_5
def dkwJ1_fixAfterInsertion_3 : List UInt8 := [184, 1, 51, 43, 184, 1, 38, 184, 1, 38, 3, 184, 1, 51, 43, 184, 1, 38, 184, 1, 38, 76]
abbrev dktJ1_fixAfterInsertion_3 : List UInt8 := dkwJ1_fixAfterInsertion_3 ++ dktJ1_fixAfterInsertion_4
def dkwJ1_fixAfterInsertion_2 : List UInt8 := [184, 1, 38, 184, 1, 44, 77, 44, 184, 1, 47, 154, 0, 38, 43, 184, 1, 38, 4, 184, 1, 51, 44, 4]
abbrev dktJ1_fixAfterInsertion_2 : List UInt8 := dkwJ1_fixAfterInsertion_2 ++ dktJ1_fixAfterInsertion_3
def dkwJ1_fixAfterInsertion_1 : List UInt8 := [154, 0, 234, 43, 184, 1, 38, 43, 184, 1, 38, 184, 1, 38, 184, 1, 41, 166, 0, 110, 43, 184, 1, 38]
abbrev dktJ1_fixAfterInsertion_1 : List UInt8 := dkwJ1_fixAfterInsertion_1 ++ dktJ1_fixAfterInsertion_2
def dkwJ1_fixAfterInsertion_0 : List UInt8 := [43, 3, 181, 1, 34, 43, 198, 0, 252, 43, 42, 180, 0, 101, 165, 0, 244, 43, 180, 0, 124, 180, 1, 34]
abbrev dktJ1_fixAfterInsertion_0 : List UInt8 := dkwJ1_fixAfterInsertion_0 ++ dktJ1_fixAfterInsertion_1
theorem dksJ1_fixAfterInsertion_0 : cJ1_fixAfterInsertion.data.toList.drop 0 = dktJ1_fixAfterInsertion_0 := by decide +kernel
theorem dksJ1_fixAfterInsertion_1 : cJ1_fixAfterInsertion.data.toList.drop 24 = dktJ1_fixAfterInsertion_1 := dk_seg dksJ1_fixAfterInsertion_0 24 rfl rfl
theorem dksJ1_fixAfterInsertion_2 : cJ1_fixAfterInsertion.data.toList.drop 48 = dktJ1_fixAfterInsertion_2 := dk_seg dksJ1_fixAfterInsertion_1 24 rfl rfl
theorem dksJ1_fixAfterInsertion_3 : cJ1_fixAfterInsertion.data.toList.drop 72 = dktJ1_fixAfterInsertion_3 := dk_seg dksJ1_fixAfterInsertion_2 24 rfl rfl
theorem dksJ1_fixAfterInsertion_4 : cJ1_fixAfterInsertion.data.toList.drop 94 = dktJ1_fixAfterInsertion_4 := dk_seg dksJ1_fixAfterInsertion_3 22 rfl rfl
theorem dksJ1_fixAfterInsertion_5 : cJ1_fixAfterInsertion.data.toList.drop 118 = dktJ1_fixAfterInsertion_5 := dk_seg dksJ1_fixAfterInsertion_4 24 rfl rfl
theorem dksJ1_fixAfterInsertion_6 : cJ1_fixAfterInsertion.data.toList.drop 142 = dktJ1_fixAfterInsertion_6 := dk_seg dksJ1_fixAfterInsertion_5 24 rfl rfl
theorem dksJ1_fixAfterInsertion_7 : cJ1_fixAfterInsertion.data.toList.drop 166 = dktJ1_fixAfterInsertion_7 := dk_seg dksJ1_fixAfterInsertion_6 24 rfl rfl
theorem dksJ1_fixAfterInsertion_8 : cJ1_fixAfterInsertion.data.toList.drop 190 = dktJ1_fixAfterInsertion_8 := dk_seg dksJ1_fixAfterInsertion_7 24 rfl rfl
theorem dksJ1_fixAfterInsertion_9 : cJ1_fixAfterInsertion.data.toList.drop 212 = dktJ1_fixAfterInsertion_9 := dk_seg dksJ1_fixAfterInsertion_8 22 rfl rfl
theorem dksJ1_fixAfterInsertion_10 : cJ1_fixAfterInsertion.data.toList.drop 234 = dktJ1_fixAfterInsertion_10 := dk_seg dksJ1_fixAfterInsertion_9 22 rfl rfl
theorem dksJ1_fixAfterInsertion_11 : cJ1_fixAfterInsertion.data.toList.drop 258 = dktJ1_fixAfterInsertion_11 := dk_seg dksJ1_fixAfterInsertion_10 24 rfl rfl
theorem dJ1_fixAfterInsertion_0 : decode cJ1_fixAfterInsertion 0 = .ok (.aload_n 1, 1) := dk_43 (dk_at dksJ1_fixAfterInsertion_0 0 rfl rfl)
theorem dJ1_fixAfterInsertion_1 : decode cJ1_fixAfterInsertion 1 = .ok (.iconst 0, 1) := dk_3 (dk_at dksJ1_fixAfterInsertion_0 1 rfl rfl)
theorem dJ1_fixAfterInsertion_2 : decode cJ1_fixAfterInsertion 2 = .ok (.putfield 290, 3) := dk_181 1 34 (dk_at dksJ1_fixAfterInsertion_0 2 rfl rfl)
theorem dJ1_fixAfterInsertion_5 : decode cJ1_fixAfterInsertion 5 = .ok (.aload_n 1, 1) := dk_43 (dk_at dksJ1_fixAfterInsertion_0 5 rfl rfl)
theorem dJ1_fixAfterInsertion_6 : decode cJ1_fixAfterInsertion 6 = .ok (.ifnull 252, 3) := dk_198 0 252 (dk_at dksJ1_fixAfterInsertion_0 6 rfl rfl)
theorem dJ1_fixAfterInsertion_9 : decode cJ1_fixAfterInsertion 9 = .ok (.aload_n 1, 1) := dk_43 (dk_at dksJ1_fixAfterInsertion_0 9 rfl rfl)
theorem dJ1_fixAfterInsertion_10 : decode cJ1_fixAfterInsertion 10 = .ok (.aload_n 0, 1) := dk_42 (dk_at dksJ1_fixAfterInsertion_0 10 rfl rfl)
theorem dJ1_fixAfterInsertion_11 : decode cJ1_fixAfterInsertion 11 = .ok (.getfield 101, 3) := dk_180 0 101 (dk_at dksJ1_fixAfterInsertion_0 11 rfl rfl)
theorem dJ1_fixAfterInsertion_14 : decode cJ1_fixAfterInsertion 14 = .ok (.if_acmp .eq 244, 3) := dk_165 0 244 (dk_at dksJ1_fixAfterInsertion_0 14 rfl rfl)
theorem dJ1_fixAfterInsertion_17 : decode cJ1_fixAfterInsertion 17 = .ok (.aload_n 1, 1) := dk_43 (dk_at dksJ1_fixAfterInsertion_0 17 rfl rfl)
theorem dJ1_fixAfterInsertion_18 : decode cJ1_fixAfterInsertion 18 = .ok (.getfield 124, 3) := dk_180 0 124 (dk_at dksJ1_fixAfterInsertion_0 18 rfl rfl)
theorem dJ1_fixAfterInsertion_21 : decode cJ1_fixAfterInsertion 21 = .ok (.getfield 290, 3) := dk_180 1 34 (dk_at dksJ1_fixAfterInsertion_0 21 rfl rfl)
theorem dJ1_fixAfterInsertion_24 : decode cJ1_fixAfterInsertion 24 = .ok (.ifCond .ne 234, 3) := dk_154 0 234 (dk_at dksJ1_fixAfterInsertion_1 0 rfl rfl)
theorem dJ1_fixAfterInsertion_27 : decode cJ1_fixAfterInsertion 27 = .ok (.aload_n 1, 1) := dk_43 (dk_at dksJ1_fixAfterInsertion_1 3 rfl rfl)
theorem dJ1_fixAfterInsertion_28 : decode cJ1_fixAfterInsertion 28 = .ok (.invokestatic 294, 3) := dk_184 1 38 (dk_at dksJ1_fixAfterInsertion_1 4 rfl rfl)
theorem dJ1_fixAfterInsertion_31 : decode cJ1_fixAfterInsertion 31 = .ok (.aload_n 1, 1) := dk_43 (dk_at dksJ1_fixAfterInsertion_1 7 rfl rfl)
theorem dJ1_fixAfterInsertion_32 : decode cJ1_fixAfterInsertion 32 = .ok (.invokestatic 294, 3) := dk_184 1 38 (dk_at dksJ1_fixAfterInsertion_1 8 rfl rfl)
theorem dJ1_fixAfterInsertion_35 : decode cJ1_fixAfterInsertion 35 = .ok (.invokestatic 294, 3) := dk_184 1 38 (dk_at dksJ1_fixAfterInsertion_1 11 rfl rfl)
theorem dJ1_fixAfterInsertion_38 : decode cJ1_fixAfterInsertion 38 = .ok (.invokestatic 297, 3) := dk_184 1 41 (dk_at dksJ1_fixAfterInsertion_1 14 rfl rfl)
theorem dJ1_fixAfterInsertion_41 : decode cJ1_fixAfterInsertion 41 = .ok (.if_acmp .ne 110, 3) := dk_166 0 110 (dk_at dksJ1_fixAfterInsertion_1 17 rfl rfl)
theorem dJ1_fixAfterInsertion_44 : decode cJ1_fixAfterInsertion 44 = .ok (.aload_n 1, 1) := dk_43 (dk_at dksJ1_fixAfterInsertion_1 20 rfl rfl)
theorem dJ1_fixAfterInsertion_45 : decode cJ1_fixAfterInsertion 45 = .ok (.invokestatic 294, 3) := dk_184 1 38 (dk_at dksJ1_fixAfterInsertion_1 21 rfl rfl)
theorem dJ1_fixAfterInsertion_48 : decode cJ1_fixAfterInsertion 48 = .ok (.invokestatic 294, 3) := dk_184 1 38 (dk_at dksJ1_fixAfterInsertion_2 0 rfl rfl)
theorem dJ1_fixAfterInsertion_51 : decode cJ1_fixAfterInsertion 51 = .ok (.invokestatic 300, 3) := dk_184 1 44 (dk_at dksJ1_fixAfterInsertion_2 3 rfl rfl)
theorem dJ1_fixAfterInsertion_54 : decode cJ1_fixAfterInsertion 54 = .ok (.astore_n 2, 1) := dk_77 (dk_at dksJ1_fixAfterInsertion_2 6 rfl rfl)
theorem dJ1_fixAfterInsertion_55 : decode cJ1_fixAfterInsertion 55 = .ok (.aload_n 2, 1) := dk_44 (dk_at dksJ1_fixAfterInsertion_2 7 rfl rfl)
theorem dJ1_fixAfterInsertion_56 : decode cJ1_fixAfterInsertion 56 = .ok (.invokestatic 303, 3) := dk_184 1 47 (dk_at dksJ1_fixAfterInsertion_2 8 rfl rfl)
theorem dJ1_fixAfterInsertion_59 : decode cJ1_fixAfterInsertion 59 = .ok (.ifCond .ne 38, 3) := dk_154 0 38 (dk_at dksJ1_fixAfterInsertion_2 11 rfl rfl)
theorem dJ1_fixAfterInsertion_62 : decode cJ1_fixAfterInsertion 62 = .ok (.aload_n 1, 1) := dk_43 (dk_at dksJ1_fixAfterInsertion_2 14 rfl rfl)
theorem dJ1_fixAfterInsertion_63 : decode cJ1_fixAfterInsertion 63 = .ok (.invokestatic 294, 3) := dk_184 1 38 (dk_at dksJ1_fixAfterInsertion_2 15 rfl rfl)
theorem dJ1_fixAfterInsertion_66 : decode cJ1_fixAfterInsertion 66 = .ok (.iconst 1, 1) := dk_4 (dk_at dksJ1_fixAfterInsertion_2 18 rfl rfl)
theorem dJ1_fixAfterInsertion_67 : decode cJ1_fixAfterInsertion 67 = .ok (.invokestatic 307, 3) := dk_184 1 51 (dk_at dksJ1_fixAfterInsertion_2 19 rfl rfl)
theorem dJ1_fixAfterInsertion_70 : decode cJ1_fixAfterInsertion 70 = .ok (.aload_n 2, 1) := dk_44 (dk_at dksJ1_fixAfterInsertion_2 22 rfl rfl)
theorem dJ1_fixAfterInsertion_71 : decode cJ1_fixAfterInsertion 71 = .ok (.iconst 1, 1) := dk_4 (dk_at dksJ1_fixAfterInsertion_2 23 rfl rfl)
theorem dJ1_fixAfterInsertion_72 : decode cJ1_fixAfterInsertion 72 = .ok (.invokestatic 307, 3) := dk_184 1 51 (dk_at dksJ1_fixAfterInsertion_3 0 rfl rfl)
theorem dJ1_fixAfterInsertion_75 : decode cJ1_fixAfterInsertion 75 = .ok (.aload_n 1, 1) := dk_43 (dk_at dksJ1_fixAfterInsertion_3 3 rfl rfl)
theorem dJ1_fixAfterInsertion_76 : decode cJ1_fixAfterInsertion 76 = .ok (.invokestatic 294, 3) := dk_184 1 38 (dk_at dksJ1_fixAfterInsertion_3 4 rfl rfl)
theorem dJ1_fixAfterInsertion_79 : decode cJ1_fixAfterInsertion 79 = .ok (.invokestatic 294, 3) := dk_184 1 38 (dk_at dksJ1_fixAfterInsertion_3 7 rfl rfl)
theorem dJ1_fixAfterInsertion_82 : decode cJ1_fixAfterInsertion 82 = .ok (.iconst 0, 1) := dk_3 (dk_at dksJ1_fixAfterInsertion_3 10 rfl rfl)
theorem dJ1_fixAfterInsertion_83 : decode cJ1_fixAfterInsertion 83 = .ok (.invokestatic 307, 3) := dk_184 1 51 (dk_at dksJ1_fixAfterInsertion_3 11 rfl rfl)
theorem dJ1_fixAfterInsertion_86 : decode cJ1_fixAfterInsertion 86 = .ok (.aload_n 1, 1) := dk_43 (dk_at dksJ1_fixAfterInsertion_3 14 rfl rfl)
theorem dJ1_fixAfterInsertion_87 : decode cJ1_fixAfterInsertion 87 = .ok (.invokestatic 294, 3) := dk_184 1 38 (dk_at dksJ1_fixAfterInsertion_3 15 rfl rfl)
theorem dJ1_fixAfterInsertion_90 : decode cJ1_fixAfterInsertion 90 = .ok (.invokestatic 294, 3) := dk_184 1 38 (dk_at dksJ1_fixAfterInsertion_3 18 rfl rfl)
theorem dJ1_fixAfterInsertion_93 : decode cJ1_fixAfterInsertion 93 = .ok (.astore_n 1, 1) := dk_76 (dk_at dksJ1_fixAfterInsertion_3 21 rfl rfl)
theorem dJ1_fixAfterInsertion_94 : decode cJ1_fixAfterInsertion 94 = .ok (.goto 54, 3) := dk_167 0 54 (dk_at dksJ1_fixAfterInsertion_4 0 rfl rfl)
theorem dJ1_fixAfterInsertion_97 : decode cJ1_fixAfterInsertion 97 = .ok (.aload_n 1, 1) := dk_43 (dk_at dksJ1_fixAfterInsertion_4 3 rfl rfl)
theorem dJ1_fixAfterInsertion_98 : decode cJ1_fixAfterInsertion 98 = .ok (.aload_n 1, 1) := dk_43 (dk_at dksJ1_fixAfterInsertion_4 4 rfl rfl)
theorem dJ1_fixAfterInsertion_99 : decode cJ1_fixAfterInsertion 99 = .ok (.invokestatic 294, 3) := dk_184 1 38 (dk_at dksJ1_fixAfterInsertion_4 5 rfl rfl)
theorem dJ1_fixAfterInsertion_102 : decode cJ1_fixAfterInsertion 102 = .ok (.invokestatic 300, 3) := dk_184 1 44 (dk_at dksJ1_fixAfterInsertion_4 8 rfl rfl)
theorem dJ1_fixAfterInsertion_105 : decode cJ1_fixAfterInsertion 105 = .ok (.if_acmp .ne 13, 3) := dk_166 0 13 (dk_at dksJ1_fixAfterInsertion_4 11 rfl rfl)
theorem dJ1_fixAfterInsertion_108 : decode cJ1_fixAfterInsertion 108 = .ok (.aload_n 1, 1) := dk_43 (dk_at dksJ1_fixAfterInsertion_4 14 rfl rfl)
theorem dJ1_fixAfterInsertion_109 : decode cJ1_fixAfterInsertion 109 = .ok (.invokestatic 294, 3) := dk_184 1 38 (dk_at dksJ1_fixAfterInsertion_4 15 rfl rfl)
theorem dJ1_fixAfterInsertion_112 : decode cJ1_fixAfterInsertion 112 = .ok (.astore_n 1, 1) := dk_76 (dk_at dksJ1_fixAfterInsertion_4 18 rfl rfl)
theorem dJ1_fixAfterInsertion_113 : decode cJ1_fixAfterInsertion 113 = .ok (.aload_n 0, 1) := dk_42 (dk_at dksJ1_fixAfterInsertion_4 19 rfl rfl)
theorem dJ1_fixAfterInsertion_114 : decode cJ1_fixAfterInsertion 114 = .ok (.aload_n 1, 1) := dk_43 (dk_at dksJ1_fixAfterInsertion_4 20 rfl rfl)
theorem dJ1_fixAfterInsertion_115 : decode cJ1_fixAfterInsertion 115 = .ok (.invokevirtual 311, 3) := dk_182 1 55 (dk_at dksJ1_fixAfterInsertion_4 21 rfl rfl)
theorem dJ1_fixAfterInsertion_118 : decode cJ1_fixAfterInsertion 118 = .ok (.aload_n 1, 1) := dk_43 (dk_at dksJ1_fixAfterInsertion_5 0 rfl rfl)
theorem dJ1_fixAfterInsertion_119 : decode cJ1_fixAfterInsertion 119 = .ok (.invokestatic 294, 3) := dk_184 1 38 (dk_at dksJ1_fixAfterInsertion_5 1 rfl rfl)
theorem dJ1_fixAfterInsertion_122 : decode cJ1_fixAfterInsertion 122 = .ok (.iconst 1, 1) := dk_4 (dk_at dksJ1_fixAfterInsertion_5 4 rfl rfl)
theorem dJ1_fixAfterInsertion_123 : decode cJ1_fixAfterInsertion 123 = .ok (.invokestatic 307, 3) := dk_184 1 51 (dk_at dksJ1_fixAfterInsertion_5 5 rfl rfl)
theorem dJ1_fixAfterInsertion_126 : decode cJ1_fixAfterInsertion 126 = .ok (.aload_n 1, 1) := dk_43 (dk_at dksJ1_fixAfterInsertion_5 8 rfl rfl)
theorem dJ1_fixAfterInsertion_127 : decode cJ1_fixAfterInsertion 127 = .ok (.invokestatic 294, 3) := dk_184 1 38 (dk_at dksJ1_fixAfterInsertion_5 9 rfl rfl)
theorem dJ1_fixAfterInsertion_130 : decode cJ1_fixAfterInsertion 130 = .ok (.invokestatic 294, 3) := dk_184 1 38 (dk_at dksJ1_fixAfterInsertion_5 12 rfl rfl)
theorem dJ1_fixAfterInsertion_133 : decode cJ1_fixAfterInsertion 133 = .ok (.iconst 0, 1) := dk_3 (dk_at dksJ1_fixAfterInsertion_5 15 rfl rfl)
theorem dJ1_fixAfterInsertion_134 : decode cJ1_fixAfterInsertion 134 = .ok (.invokestatic 307, 3) := dk_184 1 51 (dk_at dksJ1_fixAfterInsertion_5 16 rfl rfl)
theorem dJ1_fixAfterInsertion_137 : decode cJ1_fixAfterInsertion 137 = .ok (.aload_n 0, 1) := dk_42 (dk_at dksJ1_fixAfterInsertion_5 19 rfl rfl)
theorem dJ1_fixAfterInsertion_138 : decode cJ1_fixAfterInsertion 138 = .ok (.aload_n 1, 1) := dk_43 (dk_at dksJ1_fixAfterInsertion_5 20 rfl rfl)
theorem dJ1_fixAfterInsertion_139 : decode cJ1_fixAfterInsertion 139 = .ok (.invokestatic 294, 3) := dk_184 1 38 (dk_at dksJ1_fixAfterInsertion_5 21 rfl rfl)
theorem dJ1_fixAfterInsertion_142 : decode cJ1_fixAfterInsertion 142 = .ok (.invokestatic 294, 3) := dk_184 1 38 (dk_at dksJ1_fixAfterInsertion_6 0 rfl rfl)
theorem dJ1_fixAfterInsertion_145 : decode cJ1_fixAfterInsertion 145 = .ok (.invokevirtual 314, 3) := dk_182 1 58 (dk_at dksJ1_fixAfterInsertion_6 3 rfl rfl)
theorem dJ1_fixAfterInsertion_148 : decode cJ1_fixAfterInsertion 148 = .ok (.goto (-143), 3) := dk_167 255 113 (dk_at dksJ1_fixAfterInsertion_6 6 rfl rfl)
theorem dJ1_fixAfterInsertion_151 : decode cJ1_fixAfterInsertion 151 = .ok (.aload_n 1, 1) := dk_43 (dk_at dksJ1_fixAfterInsertion_6 9 rfl rfl)
theorem dJ1_fixAfterInsertion_152 : decode cJ1_fixAfterInsertion 152 = .ok (.invokestatic 294, 3) := dk_184 1 38 (dk_at dksJ1_fixAfterInsertion_6 10 rfl rfl)
theorem dJ1_fixAfterInsertion_155 : decode cJ1_fixAfterInsertion 155 = .ok (.invokestatic 294, 3) := dk_184 1 38 (dk_at dksJ1_fixAfterInsertion_6 13 rfl rfl)
theorem dJ1_fixAfterInsertion_158 : decode cJ1_fixAfterInsertion 158 = .ok (.invokestatic 297, 3) := dk_184 1 41 (dk_at dksJ1_fixAfterInsertion_6 16 rfl rfl)
theorem dJ1_fixAfterInsertion_161 : decode cJ1_fixAfterInsertion 161 = .ok (.astore_n 2, 1) := dk_77 (dk_at dksJ1_fixAfterInsertion_6 19 rfl rfl)
theorem dJ1_fixAfterInsertion_162 : decode cJ1_fixAfterInsertion 162 = .ok (.aload_n 2, 1) := dk_44 (dk_at dksJ1_fixAfterInsertion_6 20 rfl rfl)
theorem dJ1_fixAfterInsertion_163 : decode cJ1_fixAfterInsertion 163 = .ok (.invokestatic 303, 3) := dk_184 1 47 (dk_at dksJ1_fixAfterInsertion_6 21 rfl rfl)
theorem dJ1_fixAfterInsertion_166 : decode cJ1_fixAfterInsertion 166 = .ok (.ifCond .ne 38, 3) := dk_154 0 38 (dk_at dksJ1_fixAfterInsertion_7 0 rfl rfl)
theorem dJ1_fixAfterInsertion_169 : decode cJ1_fixAfterInsertion 169 = .ok (.aload_n 1, 1) := dk_43 (dk_at dksJ1_fixAfterInsertion_7 3 rfl rfl)
theorem dJ1_fixAfterInsertion_170 : decode cJ1_fixAfterInsertion 170 = .ok (.invokestatic 294, 3) := dk_184 1 38 (dk_at dksJ1_fixAfterInsertion_7 4 rfl rfl)
theorem dJ1_fixAfterInsertion_173 : decode cJ1_fixAfterInsertion 173 = .ok (.iconst 1, 1) := dk_4 (dk_at dksJ1_fixAfterInsertion_7 7 rfl rfl)
theorem dJ1_fixAfterInsertion_174 : decode cJ1_fixAfterInsertion 174 = .ok (.invokestatic 307, 3) := dk_184 1 51 (dk_at dksJ1_fixAfterInsertion_7 8 rfl rfl)
theorem dJ1_fixAfterInsertion_177 : decode cJ1_fixAfterInsertion 177 = .ok (.aload_n 2, 1) := dk_44 (dk_at dksJ1_fixAfterInsertion_7 11 rfl rfl)
theorem dJ1_fixAfterInsertion_178 : decode cJ1_fixAfterInsertion 178 = .ok (.iconst 1, 1) := dk_4 (dk_at dksJ1_fixAfterInsertion_7 12 rfl rfl)
theorem dJ1_fixAfterInsertion_179 : decode cJ1_fixAfterInsertion 179 = .ok (.invokestatic 307, 3) := dk_184 1 51 (dk_at dksJ1_fixAfterInsertion_7 13 rfl rfl)
theorem dJ1_fixAfterInsertion_182 : decode cJ1_fixAfterInsertion 182 = .ok (.aload_n 1, 1) := dk_43 (dk_at dksJ1_fixAfterInsertion_7 16 rfl rfl)
theorem dJ1_fixAfterInsertion_183 : decode cJ1_fixAfterInsertion 183 = .ok (.invokestatic 294, 3) := dk_184 1 38 (dk_at dksJ1_fixAfterInsertion_7 17 rfl rfl)
theorem dJ1_fixAfterInsertion_186 : decode cJ1_fixAfterInsertion 186 = .ok (.invokestatic 294, 3) := dk_184 1 38 (dk_at dksJ1_fixAfterInsertion_7 20 rfl rfl)
theorem dJ1_fixAfterInsertion_189 : decode cJ1_fixAfterInsertion 189 = .ok (.iconst 0, 1) := dk_3 (dk_at dksJ1_fixAfterInsertion_7 23 rfl rfl)
theorem dJ1_fixAfterInsertion_190 : decode cJ1_fixAfterInsertion 190 = .ok (.invokestatic 307, 3) := dk_184 1 51 (dk_at dksJ1_fixAfterInsertion_8 0 rfl rfl)
theorem dJ1_fixAfterInsertion_193 : decode cJ1_fixAfterInsertion 193 = .ok (.aload_n 1, 1) := dk_43 (dk_at dksJ1_fixAfterInsertion_8 3 rfl rfl)
theorem dJ1_fixAfterInsertion_194 : decode cJ1_fixAfterInsertion 194 = .ok (.invokestatic 294, 3) := dk_184 1 38 (dk_at dksJ1_fixAfterInsertion_8 4 rfl rfl)
theorem dJ1_fixAfterInsertion_197 : decode cJ1_fixAfterInsertion 197 = .ok (.invokestatic 294, 3) := dk_184 1 38 (dk_at dksJ1_fixAfterInsertion_8 7 rfl rfl)
theorem dJ1_fixAfterInsertion_200 : decode cJ1_fixAfterInsertion 200 = .ok (.astore_n 1, 1) := dk_76 (dk_at dksJ1_fixAfterInsertion_8 10 rfl rfl)
theorem dJ1_fixAfterInsertion_201 : decode cJ1_fixAfterInsertion 201 = .ok (.goto 54, 3) := dk_167 0 54 (dk_at dksJ1_fixAfterInsertion_8 11 rfl rfl)
theorem dJ1_fixAfterInsertion_204 : decode cJ1_fixAfterInsertion 204 = .ok (.aload_n 1, 1) := dk_43 (dk_at dksJ1_fixAfterInsertion_8 14 rfl rfl)
theorem dJ1_fixAfterInsertion_205 : decode cJ1_fixAfterInsertion 205 = .ok (.aload_n 1, 1) := dk_43 (dk_at dksJ1_fixAfterInsertion_8 15 rfl rfl)
theorem dJ1_fixAfterInsertion_206 : decode cJ1_fixAfterInsertion 206 = .ok (.invokestatic 294, 3) := dk_184 1 38 (dk_at dksJ1_fixAfterInsertion_8 16 rfl rfl)
theorem dJ1_fixAfterInsertion_209 : decode cJ1_fixAfterInsertion 209 = .ok (.invokestatic 297, 3) := dk_184 1 41 (dk_at dksJ1_fixAfterInsertion_8 19 rfl rfl)
theorem dJ1_fixAfterInsertion_212 : decode cJ1_fixAfterInsertion 212 = .ok (.if_acmp .ne 13, 3) := dk_166 0 13 (dk_at dksJ1_fixAfterInsertion_9 0 rfl rfl)
theorem dJ1_fixAfterInsertion_215 : decode cJ1_fixAfterInsertion 215 = .ok (.aload_n 1, 1) := dk_43 (dk_at dksJ1_fixAfterInsertion_9 3 rfl rfl)
theorem dJ1_fixAfterInsertion_216 : decode cJ1_fixAfterInsertion 216 = .ok (.invokestatic 294, 3) := dk_184 1 38 (dk_at dksJ1_fixAfterInsertion_9 4 rfl rfl)
theorem dJ1_fixAfterInsertion_219 : decode cJ1_fixAfterInsertion 219 = .ok (.astore_n 1, 1) := dk_76 (dk_at dksJ1_fixAfterInsertion_9 7 rfl rfl)
theorem dJ1_fixAfterInsertion_220 : decode cJ1_fixAfterInsertion 220 = .ok (.aload_n 0, 1) := dk_42 (dk_at dksJ1_fixAfterInsertion_9 8 rfl rfl)
theorem dJ1_fixAfterInsertion_221 : decode cJ1_fixAfterInsertion 221 = .ok (.aload_n 1, 1) := dk_43 (dk_at dksJ1_fixAfterInsertion_9 9 rfl rfl)
theorem dJ1_fixAfterInsertion_222 : decode cJ1_fixAfterInsertion 222 = .ok (.invokevirtual 314, 3) := dk_182 1 58 (dk_at dksJ1_fixAfterInsertion_9 10 rfl rfl)
theorem dJ1_fixAfterInsertion_225 : decode cJ1_fixAfterInsertion 225 = .ok (.aload_n 1, 1) := dk_43 (dk_at dksJ1_fixAfterInsertion_9 13 rfl rfl)
theorem dJ1_fixAfterInsertion_226 : decode cJ1_fixAfterInsertion 226 = .ok (.invokestatic 294, 3) := dk_184 1 38 (dk_at dksJ1_fixAfterInsertion_9 14 rfl rfl)
theorem dJ1_fixAfterInsertion_229 : decode cJ1_fixAfterInsertion 229 = .ok (.iconst 1, 1) := dk_4 (dk_at dksJ1_fixAfterInsertion_9 17 rfl rfl)
theorem dJ1_fixAfterInsertion_230 : decode cJ1_fixAfterInsertion 230 = .ok (.invokestatic 307, 3) := dk_184 1 51 (dk_at dksJ1_fixAfterInsertion_9 18 rfl rfl)
theorem dJ1_fixAfterInsertion_233 : decode cJ1_fixAfterInsertion 233 = .ok (.aload_n 1, 1) := dk_43 (dk_at dksJ1_fixAfterInsertion_9 21 rfl rfl)
theorem dJ1_fixAfterInsertion_234 : decode cJ1_fixAfterInsertion 234 = .ok (.invokestatic 294, 3) := dk_184 1 38 (dk_at dksJ1_fixAfterInsertion_10 0 rfl rfl)
theorem dJ1_fixAfterInsertion_237 : decode cJ1_fixAfterInsertion 237 = .ok (.invokestatic 294, 3) := dk_184 1 38 (dk_at dksJ1_fixAfterInsertion_10 3 rfl rfl)
theorem dJ1_fixAfterInsertion_240 : decode cJ1_fixAfterInsertion 240 = .ok (.iconst 0, 1) := dk_3 (dk_at dksJ1_fixAfterInsertion_10 6 rfl rfl)
theorem dJ1_fixAfterInsertion_241 : decode cJ1_fixAfterInsertion 241 = .ok (.invokestatic 307, 3) := dk_184 1 51 (dk_at dksJ1_fixAfterInsertion_10 7 rfl rfl)
theorem dJ1_fixAfterInsertion_244 : decode cJ1_fixAfterInsertion 244 = .ok (.aload_n 0, 1) := dk_42 (dk_at dksJ1_fixAfterInsertion_10 10 rfl rfl)
theorem dJ1_fixAfterInsertion_245 : decode cJ1_fixAfterInsertion 245 = .ok (.aload_n 1, 1) := dk_43 (dk_at dksJ1_fixAfterInsertion_10 11 rfl rfl)
theorem dJ1_fixAfterInsertion_246 : decode cJ1_fixAfterInsertion 246 = .ok (.invokestatic 294, 3) := dk_184 1 38 (dk_at dksJ1_fixAfterInsertion_10 12 rfl rfl)
theorem dJ1_fixAfterInsertion_249 : decode cJ1_fixAfterInsertion 249 = .ok (.invokestatic 294, 3) := dk_184 1 38 (dk_at dksJ1_fixAfterInsertion_10 15 rfl rfl)
theorem dJ1_fixAfterInsertion_252 : decode cJ1_fixAfterInsertion 252 = .ok (.invokevirtual 311, 3) := dk_182 1 55 (dk_at dksJ1_fixAfterInsertion_10 18 rfl rfl)
theorem dJ1_fixAfterInsertion_255 : decode cJ1_fixAfterInsertion 255 = .ok (.goto (-250), 3) := dk_167 255 6 (dk_at dksJ1_fixAfterInsertion_10 21 rfl rfl)
theorem dJ1_fixAfterInsertion_258 : decode cJ1_fixAfterInsertion 258 = .ok (.aload_n 0, 1) := dk_42 (dk_at dksJ1_fixAfterInsertion_11 0 rfl rfl)
theorem dJ1_fixAfterInsertion_259 : decode cJ1_fixAfterInsertion 259 = .ok (.getfield 101, 3) := dk_180 0 101 (dk_at dksJ1_fixAfterInsertion_11 1 rfl rfl)
theorem dJ1_fixAfterInsertion_262 : decode cJ1_fixAfterInsertion 262 = .ok (.iconst 1, 1) := dk_4 (dk_at dksJ1_fixAfterInsertion_11 4 rfl rfl)
theorem dJ1_fixAfterInsertion_263 : decode cJ1_fixAfterInsertion 263 = .ok (.putfield 290, 3) := dk_181 1 34 (dk_at dksJ1_fixAfterInsertion_11 5 rfl rfl)
theorem dJ1_fixAfterInsertion_266 : decode cJ1_fixAfterInsertion 266 = .ok (.return_, 1) := dk_177 (dk_at dksJ1_fixAfterInsertion_11 8 rfl rfl)
abbrev cJ1_parentOf : ByteArray := prog_82_method_77_code
def yJ1_parentOf : MethodName := ⟨RJ1, "parentOf", "(Ljava/util/TreeMap$Entry;)Ljava/util/TreeMap$Entry;"⟩
def dkwJ1_parentOf_0 : List UInt8 := [42, 199, 0, 7, 1, 167, 0, 7, 42, 180, 0, 124, 176]
abbrev dktJ1_parentOf_0 : List UInt8 := dkwJ1_parentOf_0 ++ []
theorem dksJ1_parentOf_0 : cJ1_parentOf.data.toList.drop 0 = dktJ1_parentOf_0 := by decide +kernel
theorem dJ1_parentOf_0 : decode cJ1_parentOf 0 = .ok (.aload_n 0, 1) := dk_42 (dk_at dksJ1_parentOf_0 0 rfl rfl)
theorem dJ1_parentOf_1 : decode cJ1_parentOf 1 = .ok (.ifnonnull 7, 3) := dk_199 0 7 (dk_at dksJ1_parentOf_0 1 rfl rfl)
theorem dJ1_parentOf_4 : decode cJ1_parentOf 4 = .ok (.aconst_null, 1) := dk_1 (dk_at dksJ1_parentOf_0 4 rfl rfl)
theorem dJ1_parentOf_5 : decode cJ1_parentOf 5 = .ok (.goto 7, 3) := dk_167 0 7 (dk_at dksJ1_parentOf_0 5 rfl rfl)
theorem dJ1_parentOf_8 : decode cJ1_parentOf 8 = .ok (.aload_n 0, 1) := dk_42 (dk_at dksJ1_parentOf_0 8 rfl rfl)
theorem dJ1_parentOf_9 : decode cJ1_parentOf 9 = .ok (.getfield 124, 3) := dk_180 0 124 (dk_at dksJ1_parentOf_0 9 rfl rfl)
theorem dJ1_parentOf_12 : decode cJ1_parentOf 12 = .ok (.areturn, 1) := dk_176 (dk_at dksJ1_parentOf_0 12 rfl rfl)
abbrev cJ1_leftOf : ByteArray := prog_82_method_79_code
def yJ1_leftOf : MethodName := ⟨RJ1, "leftOf", "(Ljava/util/TreeMap$Entry;)Ljava/util/TreeMap$Entry;"⟩
def dkwJ1_leftOf_0 : List UInt8 := [42, 199, 0, 7, 1, 167, 0, 7, 42, 180, 0, 111, 176]
abbrev dktJ1_leftOf_0 : List UInt8 := dkwJ1_leftOf_0 ++ []
theorem dksJ1_leftOf_0 : cJ1_leftOf.data.toList.drop 0 = dktJ1_leftOf_0 := by decide +kernel
theorem dJ1_leftOf_0 : decode cJ1_leftOf 0 = .ok (.aload_n 0, 1) := dk_42 (dk_at dksJ1_leftOf_0 0 rfl rfl)
theorem dJ1_leftOf_1 : decode cJ1_leftOf 1 = .ok (.ifnonnull 7, 3) := dk_199 0 7 (dk_at dksJ1_leftOf_0 1 rfl rfl)
theorem dJ1_leftOf_4 : decode cJ1_leftOf 4 = .ok (.aconst_null, 1) := dk_1 (dk_at dksJ1_leftOf_0 4 rfl rfl)
theorem dJ1_leftOf_5 : decode cJ1_leftOf 5 = .ok (.goto 7, 3) := dk_167 0 7 (dk_at dksJ1_leftOf_0 5 rfl rfl)
theorem dJ1_leftOf_8 : decode cJ1_leftOf 8 = .ok (.aload_n 0, 1) := dk_42 (dk_at dksJ1_leftOf_0 8 rfl rfl)
theorem dJ1_leftOf_9 : decode cJ1_leftOf 9 = .ok (.getfield 111, 3) := dk_180 0 111 (dk_at dksJ1_leftOf_0 9 rfl rfl)
theorem dJ1_leftOf_12 : decode cJ1_leftOf 12 = .ok (.areturn, 1) := dk_176 (dk_at dksJ1_leftOf_0 12 rfl rfl)
abbrev cJ1_rightOf : ByteArray := prog_82_method_80_code
def yJ1_rightOf : MethodName := ⟨RJ1, "rightOf", "(Ljava/util/TreeMap$Entry;)Ljava/util/TreeMap$Entry;"⟩
def dkwJ1_rightOf_0 : List UInt8 := [42, 199, 0, 7, 1, 167, 0, 7, 42, 180, 0, 114, 176]
abbrev dktJ1_rightOf_0 : List UInt8 := dkwJ1_rightOf_0 ++ []
theorem dksJ1_rightOf_0 : cJ1_rightOf.data.toList.drop 0 = dktJ1_rightOf_0 := by decide +kernel
theorem dJ1_rightOf_0 : decode cJ1_rightOf 0 = .ok (.aload_n 0, 1) := dk_42 (dk_at dksJ1_rightOf_0 0 rfl rfl)
theorem dJ1_rightOf_1 : decode cJ1_rightOf 1 = .ok (.ifnonnull 7, 3) := dk_199 0 7 (dk_at dksJ1_rightOf_0 1 rfl rfl)
theorem dJ1_rightOf_4 : decode cJ1_rightOf 4 = .ok (.aconst_null, 1) := dk_1 (dk_at dksJ1_rightOf_0 4 rfl rfl)
theorem dJ1_rightOf_5 : decode cJ1_rightOf 5 = .ok (.goto 7, 3) := dk_167 0 7 (dk_at dksJ1_rightOf_0 5 rfl rfl)
theorem dJ1_rightOf_8 : decode cJ1_rightOf 8 = .ok (.aload_n 0, 1) := dk_42 (dk_at dksJ1_rightOf_0 8 rfl rfl)
theorem dJ1_rightOf_9 : decode cJ1_rightOf 9 = .ok (.getfield 114, 3) := dk_180 0 114 (dk_at dksJ1_rightOf_0 9 rfl rfl)
theorem dJ1_rightOf_12 : decode cJ1_rightOf 12 = .ok (.areturn, 1) := dk_176 (dk_at dksJ1_rightOf_0 12 rfl rfl)
abbrev cJ1_colorOf : ByteArray := prog_82_method_76_code
def yJ1_colorOf : MethodName := ⟨RJ1, "colorOf", "(Ljava/util/TreeMap$Entry;)Z"⟩
def dkwJ1_colorOf_0 : List UInt8 := [42, 199, 0, 7, 4, 167, 0, 7, 42, 180, 1, 34, 172]
abbrev dktJ1_colorOf_0 : List UInt8 := dkwJ1_colorOf_0 ++ []
theorem dksJ1_colorOf_0 : cJ1_colorOf.data.toList.drop 0 = dktJ1_colorOf_0 := by decide +kernel
theorem dJ1_colorOf_0 : decode cJ1_colorOf 0 = .ok (.aload_n 0, 1) := dk_42 (dk_at dksJ1_colorOf_0 0 rfl rfl)
theorem dJ1_colorOf_1 : decode cJ1_colorOf 1 = .ok (.ifnonnull 7, 3) := dk_199 0 7 (dk_at dksJ1_colorOf_0 1 rfl rfl)
theorem dJ1_colorOf_4 : decode cJ1_colorOf 4 = .ok (.iconst 1, 1) := dk_4 (dk_at dksJ1_colorOf_0 4 rfl rfl)
theorem dJ1_colorOf_5 : decode cJ1_colorOf 5 = .ok (.goto 7, 3) := dk_167 0 7 (dk_at dksJ1_colorOf_0 5 rfl rfl)
theorem dJ1_colorOf_8 : decode cJ1_colorOf 8 = .ok (.aload_n 0, 1) := dk_42 (dk_at dksJ1_colorOf_0 8 rfl rfl)
theorem dJ1_colorOf_9 : decode cJ1_colorOf 9 = .ok (.getfield 290, 3) := dk_180 1 34 (dk_at dksJ1_colorOf_0 9 rfl rfl)
theorem dJ1_colorOf_12 : decode cJ1_colorOf 12 = .ok (.ireturn, 1) := dk_172 (dk_at dksJ1_colorOf_0 12 rfl rfl)
abbrev cJ1_setColor : ByteArray := prog_82_method_78_code
def yJ1_setColor : MethodName := ⟨RJ1, "setColor", "(Ljava/util/TreeMap$Entry;Z)V"⟩
def dkwJ1_setColor_0 : List UInt8 := [42, 198, 0, 8, 42, 27, 181, 1, 34, 177]
abbrev dktJ1_setColor_0 : List UInt8 := dkwJ1_setColor_0 ++ []
theorem dksJ1_setColor_0 : cJ1_setColor.data.toList.drop 0 = dktJ1_setColor_0 := by decide +kernel
theorem dJ1_setColor_0 : decode cJ1_setColor 0 = .ok (.aload_n 0, 1) := dk_42 (dk_at dksJ1_setColor_0 0 rfl rfl)
theorem dJ1_setColor_1 : decode cJ1_setColor 1 = .ok (.ifnull 8, 3) := dk_198 0 8 (dk_at dksJ1_setColor_0 1 rfl rfl)
theorem dJ1_setColor_4 : decode cJ1_setColor 4 = .ok (.aload_n 0, 1) := dk_42 (dk_at dksJ1_setColor_0 4 rfl rfl)
theorem dJ1_setColor_5 : decode cJ1_setColor 5 = .ok (.iload_n 1, 1) := dk_27 (dk_at dksJ1_setColor_0 5 rfl rfl)
theorem dJ1_setColor_6 : decode cJ1_setColor 6 = .ok (.putfield 290, 3) := dk_181 1 34 (dk_at dksJ1_setColor_0 6 rfl rfl)
theorem dJ1_setColor_9 : decode cJ1_setColor 9 = .ok (.return_, 1) := dk_177 (dk_at dksJ1_setColor_0 9 rfl rfl)
abbrev cJ1_rotateLeft : ByteArray := prog_82_method_81_code
def yJ1_rotateLeft : MethodName := ⟨RJ1, "rotateLeft", "(Ljava/util/TreeMap$Entry;)V"⟩
def dkwJ1_rotateLeft_4 : List UInt8 := [177]
abbrev dktJ1_rotateLeft_4 : List UInt8 := dkwJ1_rotateLeft_4 ++ []
def dkwJ1_rotateLeft_3 : List UInt8 := [181, 0, 111, 167, 0, 11, 43, 180, 0, 124, 44, 181, 0, 114, 44, 43, 181, 0, 111, 43, 44, 181, 0, 124]
abbrev dktJ1_rotateLeft_3 : List UInt8 := dkwJ1_rotateLeft_3 ++ dktJ1_rotateLeft_4
def dkwJ1_rotateLeft_2 : List UInt8 := [44, 181, 0, 101, 167, 0, 33, 43, 180, 0, 124, 180, 0, 111, 43, 166, 0, 14, 43, 180, 0, 124, 44]
abbrev dktJ1_rotateLeft_2 : List UInt8 := dkwJ1_rotateLeft_2 ++ dktJ1_rotateLeft_3
def dkwJ1_rotateLeft_1 : List UInt8 := [44, 180, 0, 111, 43, 181, 0, 124, 44, 43, 180, 0, 124, 181, 0, 124, 43, 180, 0, 124, 199, 0, 11, 42]
abbrev dktJ1_rotateLeft_1 : List UInt8 := dkwJ1_rotateLeft_1 ++ dktJ1_rotateLeft_2
def dkwJ1_rotateLeft_0 : List UInt8 := [43, 198, 0, 94, 43, 180, 0, 114, 77, 43, 44, 180, 0, 111, 181, 0, 114, 44, 180, 0, 111, 198, 0, 11]
abbrev dktJ1_rotateLeft_0 : List UInt8 := dkwJ1_rotateLeft_0 ++ dktJ1_rotateLeft_1
theorem dksJ1_rotateLeft_0 : cJ1_rotateLeft.data.toList.drop 0 = dktJ1_rotateLeft_0 := by decide +kernel
theorem dksJ1_rotateLeft_1 : cJ1_rotateLeft.data.toList.drop 24 = dktJ1_rotateLeft_1 := dk_seg dksJ1_rotateLeft_0 24 rfl rfl
theorem dksJ1_rotateLeft_2 : cJ1_rotateLeft.data.toList.drop 48 = dktJ1_rotateLeft_2 := dk_seg dksJ1_rotateLeft_1 24 rfl rfl
theorem dksJ1_rotateLeft_3 : cJ1_rotateLeft.data.toList.drop 71 = dktJ1_rotateLeft_3 := dk_seg dksJ1_rotateLeft_2 23 rfl rfl
theorem dksJ1_rotateLeft_4 : cJ1_rotateLeft.data.toList.drop 95 = dktJ1_rotateLeft_4 := dk_seg dksJ1_rotateLeft_3 24 rfl rfl
theorem dJ1_rotateLeft_0 : decode cJ1_rotateLeft 0 = .ok (.aload_n 1, 1) := dk_43 (dk_at dksJ1_rotateLeft_0 0 rfl rfl)
theorem dJ1_rotateLeft_1 : decode cJ1_rotateLeft 1 = .ok (.ifnull 94, 3) := dk_198 0 94 (dk_at dksJ1_rotateLeft_0 1 rfl rfl)
theorem dJ1_rotateLeft_4 : decode cJ1_rotateLeft 4 = .ok (.aload_n 1, 1) := dk_43 (dk_at dksJ1_rotateLeft_0 4 rfl rfl)
theorem dJ1_rotateLeft_5 : decode cJ1_rotateLeft 5 = .ok (.getfield 114, 3) := dk_180 0 114 (dk_at dksJ1_rotateLeft_0 5 rfl rfl)
theorem dJ1_rotateLeft_8 : decode cJ1_rotateLeft 8 = .ok (.astore_n 2, 1) := dk_77 (dk_at dksJ1_rotateLeft_0 8 rfl rfl)
theorem dJ1_rotateLeft_9 : decode cJ1_rotateLeft 9 = .ok (.aload_n 1, 1) := dk_43 (dk_at dksJ1_rotateLeft_0 9 rfl rfl)
theorem dJ1_rotateLeft_10 : decode cJ1_rotateLeft 10 = .ok (.aload_n 2, 1) := dk_44 (dk_at dksJ1_rotateLeft_0 10 rfl rfl)
theorem dJ1_rotateLeft_11 : decode cJ1_rotateLeft 11 = .ok (.getfield 111, 3) := dk_180 0 111 (dk_at dksJ1_rotateLeft_0 11 rfl rfl)
theorem dJ1_rotateLeft_14 : decode cJ1_rotateLeft 14 = .ok (.putfield 114, 3) := dk_181 0 114 (dk_at dksJ1_rotateLeft_0 14 rfl rfl)
theorem dJ1_rotateLeft_17 : decode cJ1_rotateLeft 17 = .ok (.aload_n 2, 1) := dk_44 (dk_at dksJ1_rotateLeft_0 17 rfl rfl)
theorem dJ1_rotateLeft_18 : decode cJ1_rotateLeft 18 = .ok (.getfield 111, 3) := dk_180 0 111 (dk_at dksJ1_rotateLeft_0 18 rfl rfl)
theorem dJ1_rotateLeft_21 : decode cJ1_rotateLeft 21 = .ok (.ifnull 11, 3) := dk_198 0 11 (dk_at dksJ1_rotateLeft_0 21 rfl rfl)
theorem dJ1_rotateLeft_24 : decode cJ1_rotateLeft 24 = .ok (.aload_n 2, 1) := dk_44 (dk_at dksJ1_rotateLeft_1 0 rfl rfl)
theorem dJ1_rotateLeft_25 : decode cJ1_rotateLeft 25 = .ok (.getfield 111, 3) := dk_180 0 111 (dk_at dksJ1_rotateLeft_1 1 rfl rfl)
theorem dJ1_rotateLeft_28 : decode cJ1_rotateLeft 28 = .ok (.aload_n 1, 1) := dk_43 (dk_at dksJ1_rotateLeft_1 4 rfl rfl)
theorem dJ1_rotateLeft_29 : decode cJ1_rotateLeft 29 = .ok (.putfield 124, 3) := dk_181 0 124 (dk_at dksJ1_rotateLeft_1 5 rfl rfl)
theorem dJ1_rotateLeft_32 : decode cJ1_rotateLeft 32 = .ok (.aload_n 2, 1) := dk_44 (dk_at dksJ1_rotateLeft_1 8 rfl rfl)
theorem dJ1_rotateLeft_33 : decode cJ1_rotateLeft 33 = .ok (.aload_n 1, 1) := dk_43 (dk_at dksJ1_rotateLeft_1 9 rfl rfl)
theorem dJ1_rotateLeft_34 : decode cJ1_rotateLeft 34 = .ok (.getfield 124, 3) := dk_180 0 124 (dk_at dksJ1_rotateLeft_1 10 rfl rfl)
theorem dJ1_rotateLeft_37 : decode cJ1_rotateLeft 37 = .ok (.putfield 124, 3) := dk_181 0 124 (dk_at dksJ1_rotateLeft_1 13 rfl rfl)
theorem dJ1_rotateLeft_40 : decode cJ1_rotateLeft 40 = .ok (.aload_n 1, 1) := dk_43 (dk_at dksJ1_rotateLeft_1 16 rfl rfl)
theorem dJ1_rotateLeft_41 : decode cJ1_rotateLeft 41 = .ok (.getfield 124, 3) := dk_180 0 124 (dk_at dksJ1_rotateLeft_1 17 rfl rfl)
theorem dJ1_rotateLeft_44 : decode cJ1_rotateLeft 44 = .ok (.ifnonnull 11, 3) := dk_199 0 11 (dk_at dksJ1_rotateLeft_1 20 rfl rfl)
theorem dJ1_rotateLeft_47 : decode cJ1_rotateLeft 47 = .ok (.aload_n 0, 1) := dk_42 (dk_at dksJ1_rotateLeft_1 23 rfl rfl)
theorem dJ1_rotateLeft_48 : decode cJ1_rotateLeft 48 = .ok (.aload_n 2, 1) := dk_44 (dk_at dksJ1_rotateLeft_2 0 rfl rfl)
theorem dJ1_rotateLeft_49 : decode cJ1_rotateLeft 49 = .ok (.putfield 101, 3) := dk_181 0 101 (dk_at dksJ1_rotateLeft_2 1 rfl rfl)
theorem dJ1_rotateLeft_52 : decode cJ1_rotateLeft 52 = .ok (.goto 33, 3) := dk_167 0 33 (dk_at dksJ1_rotateLeft_2 4 rfl rfl)
theorem dJ1_rotateLeft_55 : decode cJ1_rotateLeft 55 = .ok (.aload_n 1, 1) := dk_43 (dk_at dksJ1_rotateLeft_2 7 rfl rfl)
theorem dJ1_rotateLeft_56 : decode cJ1_rotateLeft 56 = .ok (.getfield 124, 3) := dk_180 0 124 (dk_at dksJ1_rotateLeft_2 8 rfl rfl)
theorem dJ1_rotateLeft_59 : decode cJ1_rotateLeft 59 = .ok (.getfield 111, 3) := dk_180 0 111 (dk_at dksJ1_rotateLeft_2 11 rfl rfl)
theorem dJ1_rotateLeft_62 : decode cJ1_rotateLeft 62 = .ok (.aload_n 1, 1) := dk_43 (dk_at dksJ1_rotateLeft_2 14 rfl rfl)
theorem dJ1_rotateLeft_63 : decode cJ1_rotateLeft 63 = .ok (.if_acmp .ne 14, 3) := dk_166 0 14 (dk_at dksJ1_rotateLeft_2 15 rfl rfl)
theorem dJ1_rotateLeft_66 : decode cJ1_rotateLeft 66 = .ok (.aload_n 1, 1) := dk_43 (dk_at dksJ1_rotateLeft_2 18 rfl rfl)
theorem dJ1_rotateLeft_67 : decode cJ1_rotateLeft 67 = .ok (.getfield 124, 3) := dk_180 0 124 (dk_at dksJ1_rotateLeft_2 19 rfl rfl)
theorem dJ1_rotateLeft_70 : decode cJ1_rotateLeft 70 = .ok (.aload_n 2, 1) := dk_44 (dk_at dksJ1_rotateLeft_2 22 rfl rfl)
theorem dJ1_rotateLeft_71 : decode cJ1_rotateLeft 71 = .ok (.putfield 111, 3) := dk_181 0 111 (dk_at dksJ1_rotateLeft_3 0 rfl rfl)
theorem dJ1_rotateLeft_74 : decode cJ1_rotateLeft 74 = .ok (.goto 11, 3) := dk_167 0 11 (dk_at dksJ1_rotateLeft_3 3 rfl rfl)
theorem dJ1_rotateLeft_77 : decode cJ1_rotateLeft 77 = .ok (.aload_n 1, 1) := dk_43 (dk_at dksJ1_rotateLeft_3 6 rfl rfl)
theorem dJ1_rotateLeft_78 : decode cJ1_rotateLeft 78 = .ok (.getfield 124, 3) := dk_180 0 124 (dk_at dksJ1_rotateLeft_3 7 rfl rfl)
theorem dJ1_rotateLeft_81 : decode cJ1_rotateLeft 81 = .ok (.aload_n 2, 1) := dk_44 (dk_at dksJ1_rotateLeft_3 10 rfl rfl)
theorem dJ1_rotateLeft_82 : decode cJ1_rotateLeft 82 = .ok (.putfield 114, 3) := dk_181 0 114 (dk_at dksJ1_rotateLeft_3 11 rfl rfl)
theorem dJ1_rotateLeft_85 : decode cJ1_rotateLeft 85 = .ok (.aload_n 2, 1) := dk_44 (dk_at dksJ1_rotateLeft_3 14 rfl rfl)
theorem dJ1_rotateLeft_86 : decode cJ1_rotateLeft 86 = .ok (.aload_n 1, 1) := dk_43 (dk_at dksJ1_rotateLeft_3 15 rfl rfl)
theorem dJ1_rotateLeft_87 : decode cJ1_rotateLeft 87 = .ok (.putfield 111, 3) := dk_181 0 111 (dk_at dksJ1_rotateLeft_3 16 rfl rfl)
theorem dJ1_rotateLeft_90 : decode cJ1_rotateLeft 90 = .ok (.aload_n 1, 1) := dk_43 (dk_at dksJ1_rotateLeft_3 19 rfl rfl)
theorem dJ1_rotateLeft_91 : decode cJ1_rotateLeft 91 = .ok (.aload_n 2, 1) := dk_44 (dk_at dksJ1_rotateLeft_3 20 rfl rfl)
theorem dJ1_rotateLeft_92 : decode cJ1_rotateLeft 92 = .ok (.putfield 124, 3) := dk_181 0 124 (dk_at dksJ1_rotateLeft_3 21 rfl rfl)
theorem dJ1_rotateLeft_95 : decode cJ1_rotateLeft 95 = .ok (.return_, 1) := dk_177 (dk_at dksJ1_rotateLeft_4 0 rfl rfl)
abbrev cJ1_rotateRight : ByteArray := prog_82_method_82_code
def yJ1_rotateRight : MethodName := ⟨RJ1, "rotateRight", "(Ljava/util/TreeMap$Entry;)V"⟩
def dkwJ1_rotateRight_4 : List UInt8 := [177]
abbrev dktJ1_rotateRight_4 : List UInt8 := dkwJ1_rotateRight_4 ++ []
def dkwJ1_rotateRight_3 : List UInt8 := [181, 0, 114, 167, 0, 11, 43, 180, 0, 124, 44, 181, 0, 111, 44, 43, 181, 0, 114, 43, 44, 181, 0, 124]
abbrev dktJ1_rotateRight_3 : List UInt8 := dkwJ1_rotateRight_3 ++ dktJ1_rotateRight_4
def dkwJ1_rotateRight_2 : List UInt8 := [44, 181, 0, 101, 167, 0, 33, 43, 180, 0, 124, 180, 0, 114, 43, 166, 0, 14, 43, 180, 0, 124, 44]
abbrev dktJ1_rotateRight_2 : List UInt8 := dkwJ1_rotateRight_2 ++ dktJ1_rotateRight_3
def dkwJ1_rotateRight_1 : List UInt8 := [44, 180, 0, 114, 43, 181, 0, 124, 44, 43, 180, 0, 124, 181, 0, 124, 43, 180, 0, 124, 199, 0, 11, 42]
abbrev dktJ1_rotateRight_1 : List UInt8 := dkwJ1_rotateRight_1 ++ dktJ1_rotateRight_2
def dkwJ1_rotateRight_0 : List UInt8 := [43, 198, 0, 94, 43, 180, 0, 111, 77, 43, 44, 180, 0, 114, 181, 0, 111, 44, 180, 0, 114, 198, 0, 11]
abbrev dktJ1_rotateRight_0 : List UInt8 := dkwJ1_rotateRight_0 ++ dktJ1_rotateRight_1
theorem dksJ1_rotateRight_0 : cJ1_rotateRight.data.toList.drop 0 = dktJ1_rotateRight_0 := by decide +kernel
theorem dksJ1_rotateRight_1 : cJ1_rotateRight.data.toList.drop 24 = dktJ1_rotateRight_1 := dk_seg dksJ1_rotateRight_0 24 rfl rfl
theorem dksJ1_rotateRight_2 : cJ1_rotateRight.data.toList.drop 48 = dktJ1_rotateRight_2 := dk_seg dksJ1_rotateRight_1 24 rfl rfl
theorem dksJ1_rotateRight_3 : cJ1_rotateRight.data.toList.drop 71 = dktJ1_rotateRight_3 := dk_seg dksJ1_rotateRight_2 23 rfl rfl
theorem dksJ1_rotateRight_4 : cJ1_rotateRight.data.toList.drop 95 = dktJ1_rotateRight_4 := dk_seg dksJ1_rotateRight_3 24 rfl rfl
theorem dJ1_rotateRight_0 : decode cJ1_rotateRight 0 = .ok (.aload_n 1, 1) := dk_43 (dk_at dksJ1_rotateRight_0 0 rfl rfl)
theorem dJ1_rotateRight_1 : decode cJ1_rotateRight 1 = .ok (.ifnull 94, 3) := dk_198 0 94 (dk_at dksJ1_rotateRight_0 1 rfl rfl)
theorem dJ1_rotateRight_4 : decode cJ1_rotateRight 4 = .ok (.aload_n 1, 1) := dk_43 (dk_at dksJ1_rotateRight_0 4 rfl rfl)
theorem dJ1_rotateRight_5 : decode cJ1_rotateRight 5 = .ok (.getfield 111, 3) := dk_180 0 111 (dk_at dksJ1_rotateRight_0 5 rfl rfl)
theorem dJ1_rotateRight_8 : decode cJ1_rotateRight 8 = .ok (.astore_n 2, 1) := dk_77 (dk_at dksJ1_rotateRight_0 8 rfl rfl)
theorem dJ1_rotateRight_9 : decode cJ1_rotateRight 9 = .ok (.aload_n 1, 1) := dk_43 (dk_at dksJ1_rotateRight_0 9 rfl rfl)
theorem dJ1_rotateRight_10 : decode cJ1_rotateRight 10 = .ok (.aload_n 2, 1) := dk_44 (dk_at dksJ1_rotateRight_0 10 rfl rfl)
theorem dJ1_rotateRight_11 : decode cJ1_rotateRight 11 = .ok (.getfield 114, 3) := dk_180 0 114 (dk_at dksJ1_rotateRight_0 11 rfl rfl)
theorem dJ1_rotateRight_14 : decode cJ1_rotateRight 14 = .ok (.putfield 111, 3) := dk_181 0 111 (dk_at dksJ1_rotateRight_0 14 rfl rfl)
theorem dJ1_rotateRight_17 : decode cJ1_rotateRight 17 = .ok (.aload_n 2, 1) := dk_44 (dk_at dksJ1_rotateRight_0 17 rfl rfl)
theorem dJ1_rotateRight_18 : decode cJ1_rotateRight 18 = .ok (.getfield 114, 3) := dk_180 0 114 (dk_at dksJ1_rotateRight_0 18 rfl rfl)
theorem dJ1_rotateRight_21 : decode cJ1_rotateRight 21 = .ok (.ifnull 11, 3) := dk_198 0 11 (dk_at dksJ1_rotateRight_0 21 rfl rfl)
theorem dJ1_rotateRight_24 : decode cJ1_rotateRight 24 = .ok (.aload_n 2, 1) := dk_44 (dk_at dksJ1_rotateRight_1 0 rfl rfl)
theorem dJ1_rotateRight_25 : decode cJ1_rotateRight 25 = .ok (.getfield 114, 3) := dk_180 0 114 (dk_at dksJ1_rotateRight_1 1 rfl rfl)
theorem dJ1_rotateRight_28 : decode cJ1_rotateRight 28 = .ok (.aload_n 1, 1) := dk_43 (dk_at dksJ1_rotateRight_1 4 rfl rfl)
theorem dJ1_rotateRight_29 : decode cJ1_rotateRight 29 = .ok (.putfield 124, 3) := dk_181 0 124 (dk_at dksJ1_rotateRight_1 5 rfl rfl)
theorem dJ1_rotateRight_32 : decode cJ1_rotateRight 32 = .ok (.aload_n 2, 1) := dk_44 (dk_at dksJ1_rotateRight_1 8 rfl rfl)
theorem dJ1_rotateRight_33 : decode cJ1_rotateRight 33 = .ok (.aload_n 1, 1) := dk_43 (dk_at dksJ1_rotateRight_1 9 rfl rfl)
theorem dJ1_rotateRight_34 : decode cJ1_rotateRight 34 = .ok (.getfield 124, 3) := dk_180 0 124 (dk_at dksJ1_rotateRight_1 10 rfl rfl)
theorem dJ1_rotateRight_37 : decode cJ1_rotateRight 37 = .ok (.putfield 124, 3) := dk_181 0 124 (dk_at dksJ1_rotateRight_1 13 rfl rfl)
theorem dJ1_rotateRight_40 : decode cJ1_rotateRight 40 = .ok (.aload_n 1, 1) := dk_43 (dk_at dksJ1_rotateRight_1 16 rfl rfl)
theorem dJ1_rotateRight_41 : decode cJ1_rotateRight 41 = .ok (.getfield 124, 3) := dk_180 0 124 (dk_at dksJ1_rotateRight_1 17 rfl rfl)
theorem dJ1_rotateRight_44 : decode cJ1_rotateRight 44 = .ok (.ifnonnull 11, 3) := dk_199 0 11 (dk_at dksJ1_rotateRight_1 20 rfl rfl)
theorem dJ1_rotateRight_47 : decode cJ1_rotateRight 47 = .ok (.aload_n 0, 1) := dk_42 (dk_at dksJ1_rotateRight_1 23 rfl rfl)
theorem dJ1_rotateRight_48 : decode cJ1_rotateRight 48 = .ok (.aload_n 2, 1) := dk_44 (dk_at dksJ1_rotateRight_2 0 rfl rfl)
theorem dJ1_rotateRight_49 : decode cJ1_rotateRight 49 = .ok (.putfield 101, 3) := dk_181 0 101 (dk_at dksJ1_rotateRight_2 1 rfl rfl)
theorem dJ1_rotateRight_52 : decode cJ1_rotateRight 52 = .ok (.goto 33, 3) := dk_167 0 33 (dk_at dksJ1_rotateRight_2 4 rfl rfl)
theorem dJ1_rotateRight_55 : decode cJ1_rotateRight 55 = .ok (.aload_n 1, 1) := dk_43 (dk_at dksJ1_rotateRight_2 7 rfl rfl)
theorem dJ1_rotateRight_56 : decode cJ1_rotateRight 56 = .ok (.getfield 124, 3) := dk_180 0 124 (dk_at dksJ1_rotateRight_2 8 rfl rfl)
theorem dJ1_rotateRight_59 : decode cJ1_rotateRight 59 = .ok (.getfield 114, 3) := dk_180 0 114 (dk_at dksJ1_rotateRight_2 11 rfl rfl)
theorem dJ1_rotateRight_62 : decode cJ1_rotateRight 62 = .ok (.aload_n 1, 1) := dk_43 (dk_at dksJ1_rotateRight_2 14 rfl rfl)
theorem dJ1_rotateRight_63 : decode cJ1_rotateRight 63 = .ok (.if_acmp .ne 14, 3) := dk_166 0 14 (dk_at dksJ1_rotateRight_2 15 rfl rfl)
theorem dJ1_rotateRight_66 : decode cJ1_rotateRight 66 = .ok (.aload_n 1, 1) := dk_43 (dk_at dksJ1_rotateRight_2 18 rfl rfl)
theorem dJ1_rotateRight_67 : decode cJ1_rotateRight 67 = .ok (.getfield 124, 3) := dk_180 0 124 (dk_at dksJ1_rotateRight_2 19 rfl rfl)
theorem dJ1_rotateRight_70 : decode cJ1_rotateRight 70 = .ok (.aload_n 2, 1) := dk_44 (dk_at dksJ1_rotateRight_2 22 rfl rfl)
theorem dJ1_rotateRight_71 : decode cJ1_rotateRight 71 = .ok (.putfield 114, 3) := dk_181 0 114 (dk_at dksJ1_rotateRight_3 0 rfl rfl)
theorem dJ1_rotateRight_74 : decode cJ1_rotateRight 74 = .ok (.goto 11, 3) := dk_167 0 11 (dk_at dksJ1_rotateRight_3 3 rfl rfl)
theorem dJ1_rotateRight_77 : decode cJ1_rotateRight 77 = .ok (.aload_n 1, 1) := dk_43 (dk_at dksJ1_rotateRight_3 6 rfl rfl)
theorem dJ1_rotateRight_78 : decode cJ1_rotateRight 78 = .ok (.getfield 124, 3) := dk_180 0 124 (dk_at dksJ1_rotateRight_3 7 rfl rfl)
theorem dJ1_rotateRight_81 : decode cJ1_rotateRight 81 = .ok (.aload_n 2, 1) := dk_44 (dk_at dksJ1_rotateRight_3 10 rfl rfl)
theorem dJ1_rotateRight_82 : decode cJ1_rotateRight 82 = .ok (.putfield 111, 3) := dk_181 0 111 (dk_at dksJ1_rotateRight_3 11 rfl rfl)
theorem dJ1_rotateRight_85 : decode cJ1_rotateRight 85 = .ok (.aload_n 2, 1) := dk_44 (dk_at dksJ1_rotateRight_3 14 rfl rfl)
theorem dJ1_rotateRight_86 : decode cJ1_rotateRight 86 = .ok (.aload_n 1, 1) := dk_43 (dk_at dksJ1_rotateRight_3 15 rfl rfl)
theorem dJ1_rotateRight_87 : decode cJ1_rotateRight 87 = .ok (.putfield 114, 3) := dk_181 0 114 (dk_at dksJ1_rotateRight_3 16 rfl rfl)
theorem dJ1_rotateRight_90 : decode cJ1_rotateRight 90 = .ok (.aload_n 1, 1) := dk_43 (dk_at dksJ1_rotateRight_3 19 rfl rfl)
theorem dJ1_rotateRight_91 : decode cJ1_rotateRight 91 = .ok (.aload_n 2, 1) := dk_44 (dk_at dksJ1_rotateRight_3 20 rfl rfl)
theorem dJ1_rotateRight_92 : decode cJ1_rotateRight 92 = .ok (.putfield 124, 3) := dk_181 0 124 (dk_at dksJ1_rotateRight_3 21 rfl rfl)
theorem dJ1_rotateRight_95 : decode cJ1_rotateRight 95 = .ok (.return_, 1) := dk_177 (dk_at dksJ1_rotateRight_4 0 rfl rfl)
abbrev cJ1_containsKey : ByteArray := prog_82_method_6_code
def yJ1_containsKey : MethodName := ⟨RJ1, "containsKey", "(Ljava/lang/Object;)Z"⟩
def dkwJ1_containsKey_0 : List UInt8 := [42, 43, 182, 0, 50, 198, 0, 7, 4, 167, 0, 4, 3, 172]
abbrev dktJ1_containsKey_0 : List UInt8 := dkwJ1_containsKey_0 ++ []
theorem dksJ1_containsKey_0 : cJ1_containsKey.data.toList.drop 0 = dktJ1_containsKey_0 := by decide +kernel
theorem dJ1_containsKey_0 : decode cJ1_containsKey 0 = .ok (.aload_n 0, 1) := dk_42 (dk_at dksJ1_containsKey_0 0 rfl rfl)
theorem dJ1_containsKey_1 : decode cJ1_containsKey 1 = .ok (.aload_n 1, 1) := dk_43 (dk_at dksJ1_containsKey_0 1 rfl rfl)
theorem dJ1_containsKey_2 : decode cJ1_containsKey 2 = .ok (.invokevirtual 50, 3) := dk_182 0 50 (dk_at dksJ1_containsKey_0 2 rfl rfl)
theorem dJ1_containsKey_5 : decode cJ1_containsKey 5 = .ok (.ifnull 7, 3) := dk_198 0 7 (dk_at dksJ1_containsKey_0 5 rfl rfl)
theorem dJ1_containsKey_8 : decode cJ1_containsKey 8 = .ok (.iconst 1, 1) := dk_4 (dk_at dksJ1_containsKey_0 8 rfl rfl)
theorem dJ1_containsKey_9 : decode cJ1_containsKey 9 = .ok (.goto 4, 3) := dk_167 0 4 (dk_at dksJ1_containsKey_0 9 rfl rfl)
theorem dJ1_containsKey_12 : decode cJ1_containsKey 12 = .ok (.iconst 0, 1) := dk_3 (dk_at dksJ1_containsKey_0 12 rfl rfl)
theorem dJ1_containsKey_13 : decode cJ1_containsKey 13 = .ok (.ireturn, 1) := dk_172 (dk_at dksJ1_containsKey_0 13 rfl rfl)
abbrev cJ1_getEntry : ByteArray := prog_82_method_15_code
def yJ1_getEntry : MethodName := ⟨RJ1, "getEntry", "(Ljava/lang/Object;)Ljava/util/TreeMap$Entry;"⟩
def dkwJ1_getEntry_3 : List UInt8 := [45, 176, 167, 255, 212, 1, 176]
abbrev dktJ1_getEntry_3 : List UInt8 := dkwJ1_getEntry_3 ++ []
def dkwJ1_getEntry_2 : List UInt8 := [156, 0, 11, 45, 180, 0, 111, 78, 167, 0, 18, 21, 4, 158, 0, 11, 45, 180, 0, 114, 78, 167, 0, 5]
abbrev dktJ1_getEntry_2 : List UInt8 := dkwJ1_getEntry_2 ++ dktJ1_getEntry_3
def dkwJ1_getEntry_1 : List UInt8 := [180, 0, 101, 78, 45, 198, 0, 46, 44, 45, 180, 0, 105, 185, 0, 107, 2, 0, 54, 4, 21, 4]
abbrev dktJ1_getEntry_1 : List UInt8 := dkwJ1_getEntry_1 ++ dktJ1_getEntry_2
def dkwJ1_getEntry_0 : List UInt8 := [42, 180, 0, 16, 198, 0, 9, 42, 43, 182, 0, 92, 176, 43, 184, 0, 95, 87, 43, 192, 0, 99, 77, 42]
abbrev dktJ1_getEntry_0 : List UInt8 := dkwJ1_getEntry_0 ++ dktJ1_getEntry_1
theorem dksJ1_getEntry_0 : cJ1_getEntry.data.toList.drop 0 = dktJ1_getEntry_0 := by decide +kernel
theorem dksJ1_getEntry_1 : cJ1_getEntry.data.toList.drop 24 = dktJ1_getEntry_1 := dk_seg dksJ1_getEntry_0 24 rfl rfl
theorem dksJ1_getEntry_2 : cJ1_getEntry.data.toList.drop 46 = dktJ1_getEntry_2 := dk_seg dksJ1_getEntry_1 22 rfl rfl
theorem dksJ1_getEntry_3 : cJ1_getEntry.data.toList.drop 70 = dktJ1_getEntry_3 := dk_seg dksJ1_getEntry_2 24 rfl rfl
theorem dJ1_getEntry_0 : decode cJ1_getEntry 0 = .ok (.aload_n 0, 1) := dk_42 (dk_at dksJ1_getEntry_0 0 rfl rfl)
theorem dJ1_getEntry_1 : decode cJ1_getEntry 1 = .ok (.getfield 16, 3) := dk_180 0 16 (dk_at dksJ1_getEntry_0 1 rfl rfl)
theorem dJ1_getEntry_4 : decode cJ1_getEntry 4 = .ok (.ifnull 9, 3) := dk_198 0 9 (dk_at dksJ1_getEntry_0 4 rfl rfl)
theorem dJ1_getEntry_7 : decode cJ1_getEntry 7 = .ok (.aload_n 0, 1) := dk_42 (dk_at dksJ1_getEntry_0 7 rfl rfl)
theorem dJ1_getEntry_8 : decode cJ1_getEntry 8 = .ok (.aload_n 1, 1) := dk_43 (dk_at dksJ1_getEntry_0 8 rfl rfl)
theorem dJ1_getEntry_9 : decode cJ1_getEntry 9 = .ok (.invokevirtual 92, 3) := dk_182 0 92 (dk_at dksJ1_getEntry_0 9 rfl rfl)
theorem dJ1_getEntry_12 : decode cJ1_getEntry 12 = .ok (.areturn, 1) := dk_176 (dk_at dksJ1_getEntry_0 12 rfl rfl)
theorem dJ1_getEntry_13 : decode cJ1_getEntry 13 = .ok (.aload_n 1, 1) := dk_43 (dk_at dksJ1_getEntry_0 13 rfl rfl)
theorem dJ1_getEntry_14 : decode cJ1_getEntry 14 = .ok (.invokestatic 95, 3) := dk_184 0 95 (dk_at dksJ1_getEntry_0 14 rfl rfl)
theorem dJ1_getEntry_17 : decode cJ1_getEntry 17 = .ok (.pop, 1) := dk_87 (dk_at dksJ1_getEntry_0 17 rfl rfl)
theorem dJ1_getEntry_18 : decode cJ1_getEntry 18 = .ok (.aload_n 1, 1) := dk_43 (dk_at dksJ1_getEntry_0 18 rfl rfl)
theorem dJ1_getEntry_19 : decode cJ1_getEntry 19 = .ok (.checkcast 99, 3) := dk_192 0 99 (dk_at dksJ1_getEntry_0 19 rfl rfl)
theorem dJ1_getEntry_22 : decode cJ1_getEntry 22 = .ok (.astore_n 2, 1) := dk_77 (dk_at dksJ1_getEntry_0 22 rfl rfl)
theorem dJ1_getEntry_23 : decode cJ1_getEntry 23 = .ok (.aload_n 0, 1) := dk_42 (dk_at dksJ1_getEntry_0 23 rfl rfl)
theorem dJ1_getEntry_24 : decode cJ1_getEntry 24 = .ok (.getfield 101, 3) := dk_180 0 101 (dk_at dksJ1_getEntry_1 0 rfl rfl)
theorem dJ1_getEntry_27 : decode cJ1_getEntry 27 = .ok (.astore_n 3, 1) := dk_78 (dk_at dksJ1_getEntry_1 3 rfl rfl)
theorem dJ1_getEntry_28 : decode cJ1_getEntry 28 = .ok (.aload_n 3, 1) := dk_45 (dk_at dksJ1_getEntry_1 4 rfl rfl)
theorem dJ1_getEntry_29 : decode cJ1_getEntry 29 = .ok (.ifnull 46, 3) := dk_198 0 46 (dk_at dksJ1_getEntry_1 5 rfl rfl)
theorem dJ1_getEntry_32 : decode cJ1_getEntry 32 = .ok (.aload_n 2, 1) := dk_44 (dk_at dksJ1_getEntry_1 8 rfl rfl)
theorem dJ1_getEntry_33 : decode cJ1_getEntry 33 = .ok (.aload_n 3, 1) := dk_45 (dk_at dksJ1_getEntry_1 9 rfl rfl)
theorem dJ1_getEntry_34 : decode cJ1_getEntry 34 = .ok (.getfield 105, 3) := dk_180 0 105 (dk_at dksJ1_getEntry_1 10 rfl rfl)
theorem dJ1_getEntry_37 : decode cJ1_getEntry 37 = .ok (.invokeinterface 107 2, 5) := by decide +kernel
theorem dJ1_getEntry_42 : decode cJ1_getEntry 42 = .ok (.istore 4, 2) := dk_54 4 (dk_at dksJ1_getEntry_1 18 rfl rfl)
theorem dJ1_getEntry_44 : decode cJ1_getEntry 44 = .ok (.iload 4, 2) := dk_21 4 (dk_at dksJ1_getEntry_1 20 rfl rfl)
theorem dJ1_getEntry_46 : decode cJ1_getEntry 46 = .ok (.ifCond .ge 11, 3) := dk_156 0 11 (dk_at dksJ1_getEntry_2 0 rfl rfl)
theorem dJ1_getEntry_49 : decode cJ1_getEntry 49 = .ok (.aload_n 3, 1) := dk_45 (dk_at dksJ1_getEntry_2 3 rfl rfl)
theorem dJ1_getEntry_50 : decode cJ1_getEntry 50 = .ok (.getfield 111, 3) := dk_180 0 111 (dk_at dksJ1_getEntry_2 4 rfl rfl)
theorem dJ1_getEntry_53 : decode cJ1_getEntry 53 = .ok (.astore_n 3, 1) := dk_78 (dk_at dksJ1_getEntry_2 7 rfl rfl)
theorem dJ1_getEntry_54 : decode cJ1_getEntry 54 = .ok (.goto 18, 3) := dk_167 0 18 (dk_at dksJ1_getEntry_2 8 rfl rfl)
theorem dJ1_getEntry_57 : decode cJ1_getEntry 57 = .ok (.iload 4, 2) := dk_21 4 (dk_at dksJ1_getEntry_2 11 rfl rfl)
theorem dJ1_getEntry_59 : decode cJ1_getEntry 59 = .ok (.ifCond .le 11, 3) := dk_158 0 11 (dk_at dksJ1_getEntry_2 13 rfl rfl)
theorem dJ1_getEntry_62 : decode cJ1_getEntry 62 = .ok (.aload_n 3, 1) := dk_45 (dk_at dksJ1_getEntry_2 16 rfl rfl)
theorem dJ1_getEntry_63 : decode cJ1_getEntry 63 = .ok (.getfield 114, 3) := dk_180 0 114 (dk_at dksJ1_getEntry_2 17 rfl rfl)
theorem dJ1_getEntry_66 : decode cJ1_getEntry 66 = .ok (.astore_n 3, 1) := dk_78 (dk_at dksJ1_getEntry_2 20 rfl rfl)
theorem dJ1_getEntry_67 : decode cJ1_getEntry 67 = .ok (.goto 5, 3) := dk_167 0 5 (dk_at dksJ1_getEntry_2 21 rfl rfl)
theorem dJ1_getEntry_70 : decode cJ1_getEntry 70 = .ok (.aload_n 3, 1) := dk_45 (dk_at dksJ1_getEntry_3 0 rfl rfl)
theorem dJ1_getEntry_71 : decode cJ1_getEntry 71 = .ok (.areturn, 1) := dk_176 (dk_at dksJ1_getEntry_3 1 rfl rfl)
theorem dJ1_getEntry_72 : decode cJ1_getEntry 72 = .ok (.goto (-44), 3) := dk_167 255 212 (dk_at dksJ1_getEntry_3 2 rfl rfl)
theorem dJ1_getEntry_75 : decode cJ1_getEntry 75 = .ok (.aconst_null, 1) := dk_1 (dk_at dksJ1_getEntry_3 5 rfl rfl)
theorem dJ1_getEntry_76 : decode cJ1_getEntry 76 = .ok (.areturn, 1) := dk_176 (dk_at dksJ1_getEntry_3 6 rfl rfl)
abbrev cJ1_getEntryUsingComparator : ByteArray := prog_82_method_16_code
def yJ1_getEntryUsingComparator : MethodName := ⟨RJ1, "getEntryUsingComparator", "(Ljava/lang/Object;)Ljava/util/TreeMap$Entry;"⟩
def dkwJ1_getEntryUsingComparator_3 : List UInt8 := [1, 176]
abbrev dktJ1_getEntryUsingComparator_3 : List UInt8 := dkwJ1_getEntryUsingComparator_3 ++ []
def dkwJ1_getEntryUsingComparator_2 : List UInt8 := [167, 0, 21, 21, 5, 158, 0, 13, 25, 4, 180, 0, 114, 58, 4, 167, 0, 6, 25, 4, 176, 167, 255, 204]
abbrev dktJ1_getEntryUsingComparator_2 : List UInt8 := dkwJ1_getEntryUsingComparator_2 ++ dktJ1_getEntryUsingComparator_3
def dkwJ1_getEntryUsingComparator_1 : List UInt8 := [25, 4, 180, 0, 105, 185, 0, 117, 3, 0, 54, 5, 21, 5, 156, 0, 13, 25, 4, 180, 0, 111, 58, 4]
abbrev dktJ1_getEntryUsingComparator_1 : List UInt8 := dkwJ1_getEntryUsingComparator_1 ++ dktJ1_getEntryUsingComparator_2
def dkwJ1_getEntryUsingComparator_0 : List UInt8 := [43, 77, 42, 180, 0, 16, 78, 45, 198, 0, 64, 42, 180, 0, 101, 58, 4, 25, 4, 198, 0, 53, 45, 44]
abbrev dktJ1_getEntryUsingComparator_0 : List UInt8 := dkwJ1_getEntryUsingComparator_0 ++ dktJ1_getEntryUsingComparator_1
theorem dksJ1_getEntryUsingComparator_0 : cJ1_getEntryUsingComparator.data.toList.drop 0 = dktJ1_getEntryUsingComparator_0 := by decide +kernel
theorem dksJ1_getEntryUsingComparator_1 : cJ1_getEntryUsingComparator.data.toList.drop 24 = dktJ1_getEntryUsingComparator_1 := dk_seg dksJ1_getEntryUsingComparator_0 24 rfl rfl
theorem dksJ1_getEntryUsingComparator_2 : cJ1_getEntryUsingComparator.data.toList.drop 48 = dktJ1_getEntryUsingComparator_2 := dk_seg dksJ1_getEntryUsingComparator_1 24 rfl rfl
theorem dksJ1_getEntryUsingComparator_3 : cJ1_getEntryUsingComparator.data.toList.drop 72 = dktJ1_getEntryUsingComparator_3 := dk_seg dksJ1_getEntryUsingComparator_2 24 rfl rfl
theorem dJ1_getEntryUsingComparator_0 : decode cJ1_getEntryUsingComparator 0 = .ok (.aload_n 1, 1) := dk_43 (dk_at dksJ1_getEntryUsingComparator_0 0 rfl rfl)
theorem dJ1_getEntryUsingComparator_1 : decode cJ1_getEntryUsingComparator 1 = .ok (.astore_n 2, 1) := dk_77 (dk_at dksJ1_getEntryUsingComparator_0 1 rfl rfl)
theorem dJ1_getEntryUsingComparator_2 : decode cJ1_getEntryUsingComparator 2 = .ok (.aload_n 0, 1) := dk_42 (dk_at dksJ1_getEntryUsingComparator_0 2 rfl rfl)
theorem dJ1_getEntryUsingComparator_3 : decode cJ1_getEntryUsingComparator 3 = .ok (.getfield 16, 3) := dk_180 0 16 (dk_at dksJ1_getEntryUsingComparator_0 3 rfl rfl)
theorem dJ1_getEntryUsingComparator_6 : decode cJ1_getEntryUsingComparator 6 = .ok (.astore_n 3, 1) := dk_78 (dk_at dksJ1_getEntryUsingComparator_0 6 rfl rfl)
theorem dJ1_getEntryUsingComparator_7 : decode cJ1_getEntryUsingComparator 7 = .ok (.aload_n 3, 1) := dk_45 (dk_at dksJ1_getEntryUsingComparator_0 7 rfl rfl)
theorem dJ1_getEntryUsingComparator_8 : decode cJ1_getEntryUsingComparator 8 = .ok (.ifnull 64, 3) := dk_198 0 64 (dk_at dksJ1_getEntryUsingComparator_0 8 rfl rfl)
theorem dJ1_getEntryUsingComparator_11 : decode cJ1_getEntryUsingComparator 11 = .ok (.aload_n 0, 1) := dk_42 (dk_at dksJ1_getEntryUsingComparator_0 11 rfl rfl)
theorem dJ1_getEntryUsingComparator_12 : decode cJ1_getEntryUsingComparator 12 = .ok (.getfield 101, 3) := dk_180 0 101 (dk_at dksJ1_getEntryUsingComparator_0 12 rfl rfl)
theorem dJ1_getEntryUsingComparator_15 : decode cJ1_getEntryUsingComparator 15 = .ok (.astore 4, 2) := dk_58 4 (dk_at dksJ1_getEntryUsingComparator_0 15 rfl rfl)
theorem dJ1_getEntryUsingComparator_17 : decode cJ1_getEntryUsingComparator 17 = .ok (.aload 4, 2) := dk_25 4 (dk_at dksJ1_getEntryUsingComparator_0 17 rfl rfl)
theorem dJ1_getEntryUsingComparator_19 : decode cJ1_getEntryUsingComparator 19 = .ok (.ifnull 53, 3) := dk_198 0 53 (dk_at dksJ1_getEntryUsingComparator_0 19 rfl rfl)
theorem dJ1_getEntryUsingComparator_22 : decode cJ1_getEntryUsingComparator 22 = .ok (.aload_n 3, 1) := dk_45 (dk_at dksJ1_getEntryUsingComparator_0 22 rfl rfl)
theorem dJ1_getEntryUsingComparator_23 : decode cJ1_getEntryUsingComparator 23 = .ok (.aload_n 2, 1) := dk_44 (dk_at dksJ1_getEntryUsingComparator_0 23 rfl rfl)
theorem dJ1_getEntryUsingComparator_24 : decode cJ1_getEntryUsingComparator 24 = .ok (.aload 4, 2) := dk_25 4 (dk_at dksJ1_getEntryUsingComparator_1 0 rfl rfl)
theorem dJ1_getEntryUsingComparator_26 : decode cJ1_getEntryUsingComparator 26 = .ok (.getfield 105, 3) := dk_180 0 105 (dk_at dksJ1_getEntryUsingComparator_1 2 rfl rfl)
theorem dJ1_getEntryUsingComparator_29 : decode cJ1_getEntryUsingComparator 29 = .ok (.invokeinterface 117 3, 5) := by decide +kernel
theorem dJ1_getEntryUsingComparator_34 : decode cJ1_getEntryUsingComparator 34 = .ok (.istore 5, 2) := dk_54 5 (dk_at dksJ1_getEntryUsingComparator_1 10 rfl rfl)
theorem dJ1_getEntryUsingComparator_36 : decode cJ1_getEntryUsingComparator 36 = .ok (.iload 5, 2) := dk_21 5 (dk_at dksJ1_getEntryUsingComparator_1 12 rfl rfl)
theorem dJ1_getEntryUsingComparator_38 : decode cJ1_getEntryUsingComparator 38 = .ok (.ifCond .ge 13, 3) := dk_156 0 13 (dk_at dksJ1_getEntryUsingComparator_1 14 rfl rfl)
theorem dJ1_getEntryUsingComparator_41 : decode cJ1_getEntryUsingComparator 41 = .ok (.aload 4, 2) := dk_25 4 (dk_at dksJ1_getEntryUsingComparator_1 17 rfl rfl)
theorem dJ1_getEntryUsingComparator_43 : decode cJ1_getEntryUsingComparator 43 = .ok (.getfield 111, 3) := dk_180 0 111 (dk_at dksJ1_getEntryUsingComparator_1 19 rfl rfl)
theorem dJ1_getEntryUsingComparator_46 : decode cJ1_getEntryUsingComparator 46 = .ok (.astore 4, 2) := dk_58 4 (dk_at dksJ1_getEntryUsingComparator_1 22 rfl rfl)
theorem dJ1_getEntryUsingComparator_48 : decode cJ1_getEntryUsingComparator 48 = .ok (.goto 21, 3) := dk_167 0 21 (dk_at dksJ1_getEntryUsingComparator_2 0 rfl rfl)
theorem dJ1_getEntryUsingComparator_51 : decode cJ1_getEntryUsingComparator 51 = .ok (.iload 5, 2) := dk_21 5 (dk_at dksJ1_getEntryUsingComparator_2 3 rfl rfl)
theorem dJ1_getEntryUsingComparator_53 : decode cJ1_getEntryUsingComparator 53 = .ok (.ifCond .le 13, 3) := dk_158 0 13 (dk_at dksJ1_getEntryUsingComparator_2 5 rfl rfl)
theorem dJ1_getEntryUsingComparator_56 : decode cJ1_getEntryUsingComparator 56 = .ok (.aload 4, 2) := dk_25 4 (dk_at dksJ1_getEntryUsingComparator_2 8 rfl rfl)
theorem dJ1_getEntryUsingComparator_58 : decode cJ1_getEntryUsingComparator 58 = .ok (.getfield 114, 3) := dk_180 0 114 (dk_at dksJ1_getEntryUsingComparator_2 10 rfl rfl)
theorem dJ1_getEntryUsingComparator_61 : decode cJ1_getEntryUsingComparator 61 = .ok (.astore 4, 2) := dk_58 4 (dk_at dksJ1_getEntryUsingComparator_2 13 rfl rfl)
theorem dJ1_getEntryUsingComparator_63 : decode cJ1_getEntryUsingComparator 63 = .ok (.goto 6, 3) := dk_167 0 6 (dk_at dksJ1_getEntryUsingComparator_2 15 rfl rfl)
theorem dJ1_getEntryUsingComparator_66 : decode cJ1_getEntryUsingComparator 66 = .ok (.aload 4, 2) := dk_25 4 (dk_at dksJ1_getEntryUsingComparator_2 18 rfl rfl)
theorem dJ1_getEntryUsingComparator_68 : decode cJ1_getEntryUsingComparator 68 = .ok (.areturn, 1) := dk_176 (dk_at dksJ1_getEntryUsingComparator_2 20 rfl rfl)
theorem dJ1_getEntryUsingComparator_69 : decode cJ1_getEntryUsingComparator 69 = .ok (.goto (-52), 3) := dk_167 255 204 (dk_at dksJ1_getEntryUsingComparator_2 21 rfl rfl)
theorem dJ1_getEntryUsingComparator_72 : decode cJ1_getEntryUsingComparator 72 = .ok (.aconst_null, 1) := dk_1 (dk_at dksJ1_getEntryUsingComparator_3 0 rfl rfl)
theorem dJ1_getEntryUsingComparator_73 : decode cJ1_getEntryUsingComparator 73 = .ok (.areturn, 1) := dk_176 (dk_at dksJ1_getEntryUsingComparator_3 1 rfl rfl)
abbrev cJ1_get : ByteArray := prog_82_method_8_code
def yJ1_get : MethodName := ⟨RJ1, "get", "(Ljava/lang/Object;)Ljava/lang/Object;"⟩
def dkwJ1_get_0 : List UInt8 := [42, 43, 182, 0, 50, 77, 44, 199, 0, 7, 1, 167, 0, 7, 44, 180, 0, 58, 176]
abbrev dktJ1_get_0 : List UInt8 := dkwJ1_get_0 ++ []
theorem dksJ1_get_0 : cJ1_get.data.toList.drop 0 = dktJ1_get_0 := by decide +kernel
theorem dJ1_get_0 : decode cJ1_get 0 = .ok (.aload_n 0, 1) := dk_42 (dk_at dksJ1_get_0 0 rfl rfl)
theorem dJ1_get_1 : decode cJ1_get 1 = .ok (.aload_n 1, 1) := dk_43 (dk_at dksJ1_get_0 1 rfl rfl)
theorem dJ1_get_2 : decode cJ1_get 2 = .ok (.invokevirtual 50, 3) := dk_182 0 50 (dk_at dksJ1_get_0 2 rfl rfl)
theorem dJ1_get_5 : decode cJ1_get 5 = .ok (.astore_n 2, 1) := dk_77 (dk_at dksJ1_get_0 5 rfl rfl)
theorem dJ1_get_6 : decode cJ1_get 6 = .ok (.aload_n 2, 1) := dk_44 (dk_at dksJ1_get_0 6 rfl rfl)
theorem dJ1_get_7 : decode cJ1_get 7 = .ok (.ifnonnull 7, 3) := dk_199 0 7 (dk_at dksJ1_get_0 7 rfl rfl)
theorem dJ1_get_10 : decode cJ1_get 10 = .ok (.aconst_null, 1) := dk_1 (dk_at dksJ1_get_0 10 rfl rfl)
theorem dJ1_get_11 : decode cJ1_get 11 = .ok (.goto 7, 3) := dk_167 0 7 (dk_at dksJ1_get_0 11 rfl rfl)
theorem dJ1_get_14 : decode cJ1_get 14 = .ok (.aload_n 2, 1) := dk_44 (dk_at dksJ1_get_0 14 rfl rfl)
theorem dJ1_get_15 : decode cJ1_get 15 = .ok (.getfield 58, 3) := dk_180 0 58 (dk_at dksJ1_get_0 15 rfl rfl)
theorem dJ1_get_18 : decode cJ1_get 18 = .ok (.areturn, 1) := dk_176 (dk_at dksJ1_get_0 18 rfl rfl)
abbrev cJ2_init : ByteArray := prog_46_method_1_code
def yJ2_init : MethodName := ⟨RJ2, "<init>", "()V"⟩
theorem dJ2_init_0 : decode cJ2_init 0 = .ok (.aload_n 0, 1) := by decide +kernel
theorem dJ2_init_1 : decode cJ2_init 1 = .ok (.invokespecial 1, 3) := by decide +kernel
theorem dJ2_init_4 : decode cJ2_init 4 = .ok (.return_, 1) := by decide +kernel
abbrev cJ2_toArray : ByteArray := prog_46_method_6_code
def yJ2_toArray : MethodName := ⟨RJ2, "toArray", "()[Ljava/lang/Object;"⟩
def dkwJ2_toArray_3 : List UInt8 := [176]
abbrev dktJ2_toArray_3 : List UInt8 := dkwJ2_toArray_3 ++ []
def dkwJ2_toArray_2 : List UInt8 := [132, 3, 1, 167, 255, 223, 44, 185, 0, 17, 1, 0, 153, 0, 11, 43, 44, 184, 0, 37, 167, 0, 4, 43]
abbrev dktJ2_toArray_2 : List UInt8 := dkwJ2_toArray_2 ++ dktJ2_toArray_3
def dkwJ2_toArray_1 : List UInt8 := [185, 0, 17, 1, 0, 154, 0, 9, 43, 29, 184, 0, 31, 176, 43, 29, 44, 185, 0, 23, 1, 0, 83]
abbrev dktJ2_toArray_1 : List UInt8 := dkwJ2_toArray_1 ++ dktJ2_toArray_2
def dkwJ2_toArray_0 : List UInt8 := [42, 182, 0, 7, 189, 0, 2, 76, 42, 182, 0, 13, 77, 3, 62, 29, 43, 190, 162, 0, 33, 44]
abbrev dktJ2_toArray_0 : List UInt8 := dkwJ2_toArray_0 ++ dktJ2_toArray_1
theorem dksJ2_toArray_0 : cJ2_toArray.data.toList.drop 0 = dktJ2_toArray_0 := by decide +kernel
theorem dksJ2_toArray_1 : cJ2_toArray.data.toList.drop 22 = dktJ2_toArray_1 := dk_seg dksJ2_toArray_0 22 rfl rfl
theorem dksJ2_toArray_2 : cJ2_toArray.data.toList.drop 45 = dktJ2_toArray_2 := dk_seg dksJ2_toArray_1 23 rfl rfl
theorem dksJ2_toArray_3 : cJ2_toArray.data.toList.drop 69 = dktJ2_toArray_3 := dk_seg dksJ2_toArray_2 24 rfl rfl
theorem dJ2_toArray_0 : decode cJ2_toArray 0 = .ok (.aload_n 0, 1) := dk_42 (dk_at dksJ2_toArray_0 0 rfl rfl)
theorem dJ2_toArray_1 : decode cJ2_toArray 1 = .ok (.invokevirtual 7, 3) := dk_182 0 7 (dk_at dksJ2_toArray_0 1 rfl rfl)
theorem dJ2_toArray_4 : decode cJ2_toArray 4 = .ok (.anewarray 2, 3) := dk_189 0 2 (dk_at dksJ2_toArray_0 4 rfl rfl)
theorem dJ2_toArray_7 : decode cJ2_toArray 7 = .ok (.astore_n 1, 1) := dk_76 (dk_at dksJ2_toArray_0 7 rfl rfl)
theorem dJ2_toArray_8 : decode cJ2_toArray 8 = .ok (.aload_n 0, 1) := dk_42 (dk_at dksJ2_toArray_0 8 rfl rfl)
theorem dJ2_toArray_9 : decode cJ2_toArray 9 = .ok (.invokevirtual 13, 3) := dk_182 0 13 (dk_at dksJ2_toArray_0 9 rfl rfl)
theorem dJ2_toArray_12 : decode cJ2_toArray 12 = .ok (.astore_n 2, 1) := dk_77 (dk_at dksJ2_toArray_0 12 rfl rfl)
theorem dJ2_toArray_13 : decode cJ2_toArray 13 = .ok (.iconst 0, 1) := dk_3 (dk_at dksJ2_toArray_0 13 rfl rfl)
theorem dJ2_toArray_14 : decode cJ2_toArray 14 = .ok (.istore_n 3, 1) := dk_62 (dk_at dksJ2_toArray_0 14 rfl rfl)
theorem dJ2_toArray_15 : decode cJ2_toArray 15 = .ok (.iload_n 3, 1) := dk_29 (dk_at dksJ2_toArray_0 15 rfl rfl)
theorem dJ2_toArray_16 : decode cJ2_toArray 16 = .ok (.aload_n 1, 1) := dk_43 (dk_at dksJ2_toArray_0 16 rfl rfl)
theorem dJ2_toArray_17 : decode cJ2_toArray 17 = .ok (.arraylength, 1) := dk_190 (dk_at dksJ2_toArray_0 17 rfl rfl)
theorem dJ2_toArray_18 : decode cJ2_toArray 18 = .ok (.if_icmp .ge 33, 3) := dk_162 0 33 (dk_at dksJ2_toArray_0 18 rfl rfl)
theorem dJ2_toArray_21 : decode cJ2_toArray 21 = .ok (.aload_n 2, 1) := dk_44 (dk_at dksJ2_toArray_0 21 rfl rfl)
theorem dJ2_toArray_22 : decode cJ2_toArray 22 = .ok (.invokeinterface 17 1, 5) := by decide +kernel
theorem dJ2_toArray_27 : decode cJ2_toArray 27 = .ok (.ifCond .ne 9, 3) := dk_154 0 9 (dk_at dksJ2_toArray_1 5 rfl rfl)
theorem dJ2_toArray_30 : decode cJ2_toArray 30 = .ok (.aload_n 1, 1) := dk_43 (dk_at dksJ2_toArray_1 8 rfl rfl)
theorem dJ2_toArray_31 : decode cJ2_toArray 31 = .ok (.iload_n 3, 1) := dk_29 (dk_at dksJ2_toArray_1 9 rfl rfl)
theorem dJ2_toArray_32 : decode cJ2_toArray 32 = .ok (.invokestatic 31, 3) := dk_184 0 31 (dk_at dksJ2_toArray_1 10 rfl rfl)
theorem dJ2_toArray_35 : decode cJ2_toArray 35 = .ok (.areturn, 1) := dk_176 (dk_at dksJ2_toArray_1 13 rfl rfl)
theorem dJ2_toArray_36 : decode cJ2_toArray 36 = .ok (.aload_n 1, 1) := dk_43 (dk_at dksJ2_toArray_1 14 rfl rfl)
theorem dJ2_toArray_37 : decode cJ2_toArray 37 = .ok (.iload_n 3, 1) := dk_29 (dk_at dksJ2_toArray_1 15 rfl rfl)
theorem dJ2_toArray_38 : decode cJ2_toArray 38 = .ok (.aload_n 2, 1) := dk_44 (dk_at dksJ2_toArray_1 16 rfl rfl)
theorem dJ2_toArray_39 : decode cJ2_toArray 39 = .ok (.invokeinterface 23 1, 5) := by decide +kernel
theorem dJ2_toArray_44 : decode cJ2_toArray 44 = .ok (.aastore, 1) := dk_83 (dk_at dksJ2_toArray_1 22 rfl rfl)
theorem dJ2_toArray_45 : decode cJ2_toArray 45 = .ok (.iinc 3 1, 3) := dk_132 3 1 (dk_at dksJ2_toArray_2 0 rfl rfl)
theorem dJ2_toArray_48 : decode cJ2_toArray 48 = .ok (.goto (-33), 3) := dk_167 255 223 (dk_at dksJ2_toArray_2 3 rfl rfl)
theorem dJ2_toArray_51 : decode cJ2_toArray 51 = .ok (.aload_n 2, 1) := dk_44 (dk_at dksJ2_toArray_2 6 rfl rfl)
theorem dJ2_toArray_52 : decode cJ2_toArray 52 = .ok (.invokeinterface 17 1, 5) := by decide +kernel
theorem dJ2_toArray_57 : decode cJ2_toArray 57 = .ok (.ifCond .eq 11, 3) := dk_153 0 11 (dk_at dksJ2_toArray_2 12 rfl rfl)
theorem dJ2_toArray_60 : decode cJ2_toArray 60 = .ok (.aload_n 1, 1) := dk_43 (dk_at dksJ2_toArray_2 15 rfl rfl)
theorem dJ2_toArray_61 : decode cJ2_toArray 61 = .ok (.aload_n 2, 1) := dk_44 (dk_at dksJ2_toArray_2 16 rfl rfl)
theorem dJ2_toArray_62 : decode cJ2_toArray 62 = .ok (.invokestatic 37, 3) := dk_184 0 37 (dk_at dksJ2_toArray_2 17 rfl rfl)
theorem dJ2_toArray_65 : decode cJ2_toArray 65 = .ok (.goto 4, 3) := dk_167 0 4 (dk_at dksJ2_toArray_2 20 rfl rfl)
theorem dJ2_toArray_68 : decode cJ2_toArray 68 = .ok (.aload_n 1, 1) := dk_43 (dk_at dksJ2_toArray_2 23 rfl rfl)
theorem dJ2_toArray_69 : decode cJ2_toArray 69 = .ok (.areturn, 1) := dk_176 (dk_at dksJ2_toArray_3 0 rfl rfl)
abbrev cJ2_finishToArray : ByteArray := prog_46_method_8_code
def yJ2_finishToArray : MethodName := ⟨RJ2, "finishToArray", "([Ljava/lang/Object;Ljava/util/Iterator;)[Ljava/lang/Object;"⟩
def dkwJ2_finishToArray_2 : List UInt8 := [167, 255, 213, 29, 28, 160, 0, 7, 42, 167, 0, 8, 42, 29, 184, 0, 31, 176]
abbrev dktJ2_finishToArray_2 : List UInt8 := dkwJ2_finishToArray_2 ++ []
def dkwJ2_finishToArray_1 : List UInt8 := [4, 96, 184, 0, 64, 61, 42, 28, 184, 0, 31, 75, 42, 29, 132, 3, 1, 43, 185, 0, 23, 1, 0, 83]
abbrev dktJ2_finishToArray_1 : List UInt8 := dkwJ2_finishToArray_1 ++ dktJ2_finishToArray_2
def dkwJ2_finishToArray_0 : List UInt8 := [42, 190, 61, 28, 62, 43, 185, 0, 17, 1, 0, 153, 0, 40, 29, 28, 160, 0, 20, 28, 4, 28, 4, 122]
abbrev dktJ2_finishToArray_0 : List UInt8 := dkwJ2_finishToArray_0 ++ dktJ2_finishToArray_1
theorem dksJ2_finishToArray_0 : cJ2_finishToArray.data.toList.drop 0 = dktJ2_finishToArray_0 := by decide +kernel
theorem dksJ2_finishToArray_1 : cJ2_finishToArray.data.toList.drop 24 = dktJ2_finishToArray_1 := dk_seg dksJ2_finishToArray_0 24 rfl rfl
theorem dksJ2_finishToArray_2 : cJ2_finishToArray.data.toList.drop 48 = dktJ2_finishToArray_2 := dk_seg dksJ2_finishToArray_1 24 rfl rfl
theorem dJ2_finishToArray_0 : decode cJ2_finishToArray 0 = .ok (.aload_n 0, 1) := dk_42 (dk_at dksJ2_finishToArray_0 0 rfl rfl)
theorem dJ2_finishToArray_1 : decode cJ2_finishToArray 1 = .ok (.arraylength, 1) := dk_190 (dk_at dksJ2_finishToArray_0 1 rfl rfl)
theorem dJ2_finishToArray_2 : decode cJ2_finishToArray 2 = .ok (.istore_n 2, 1) := dk_61 (dk_at dksJ2_finishToArray_0 2 rfl rfl)
theorem dJ2_finishToArray_3 : decode cJ2_finishToArray 3 = .ok (.iload_n 2, 1) := dk_28 (dk_at dksJ2_finishToArray_0 3 rfl rfl)
theorem dJ2_finishToArray_4 : decode cJ2_finishToArray 4 = .ok (.istore_n 3, 1) := dk_62 (dk_at dksJ2_finishToArray_0 4 rfl rfl)
theorem dJ2_finishToArray_5 : decode cJ2_finishToArray 5 = .ok (.aload_n 1, 1) := dk_43 (dk_at dksJ2_finishToArray_0 5 rfl rfl)
theorem dJ2_finishToArray_6 : decode cJ2_finishToArray 6 = .ok (.invokeinterface 17 1, 5) := by decide +kernel
theorem dJ2_finishToArray_11 : decode cJ2_finishToArray 11 = .ok (.ifCond .eq 40, 3) := dk_153 0 40 (dk_at dksJ2_finishToArray_0 11 rfl rfl)
theorem dJ2_finishToArray_14 : decode cJ2_finishToArray 14 = .ok (.iload_n 3, 1) := dk_29 (dk_at dksJ2_finishToArray_0 14 rfl rfl)
theorem dJ2_finishToArray_15 : decode cJ2_finishToArray 15 = .ok (.iload_n 2, 1) := dk_28 (dk_at dksJ2_finishToArray_0 15 rfl rfl)
theorem dJ2_finishToArray_16 : decode cJ2_finishToArray 16 = .ok (.if_icmp .ne 20, 3) := dk_160 0 20 (dk_at dksJ2_finishToArray_0 16 rfl rfl)
theorem dJ2_finishToArray_19 : decode cJ2_finishToArray 19 = .ok (.iload_n 2, 1) := dk_28 (dk_at dksJ2_finishToArray_0 19 rfl rfl)
theorem dJ2_finishToArray_20 : decode cJ2_finishToArray 20 = .ok (.iconst 1, 1) := dk_4 (dk_at dksJ2_finishToArray_0 20 rfl rfl)
theorem dJ2_finishToArray_21 : decode cJ2_finishToArray 21 = .ok (.iload_n 2, 1) := dk_28 (dk_at dksJ2_finishToArray_0 21 rfl rfl)
theorem dJ2_finishToArray_22 : decode cJ2_finishToArray 22 = .ok (.iconst 1, 1) := dk_4 (dk_at dksJ2_finishToArray_0 22 rfl rfl)
theorem dJ2_finishToArray_23 : decode cJ2_finishToArray 23 = .ok (.ishr, 1) := dk_122 (dk_at dksJ2_finishToArray_0 23 rfl rfl)
theorem dJ2_finishToArray_24 : decode cJ2_finishToArray 24 = .ok (.iconst 1, 1) := dk_4 (dk_at dksJ2_finishToArray_1 0 rfl rfl)
theorem dJ2_finishToArray_25 : decode cJ2_finishToArray 25 = .ok (.iadd, 1) := dk_96 (dk_at dksJ2_finishToArray_1 1 rfl rfl)
theorem dJ2_finishToArray_26 : decode cJ2_finishToArray 26 = .ok (.invokestatic 64, 3) := dk_184 0 64 (dk_at dksJ2_finishToArray_1 2 rfl rfl)
theorem dJ2_finishToArray_29 : decode cJ2_finishToArray 29 = .ok (.istore_n 2, 1) := dk_61 (dk_at dksJ2_finishToArray_1 5 rfl rfl)
theorem dJ2_finishToArray_30 : decode cJ2_finishToArray 30 = .ok (.aload_n 0, 1) := dk_42 (dk_at dksJ2_finishToArray_1 6 rfl rfl)
theorem dJ2_finishToArray_31 : decode cJ2_finishToArray 31 = .ok (.iload_n 2, 1) := dk_28 (dk_at dksJ2_finishToArray_1 7 rfl rfl)
theorem dJ2_finishToArray_32 : decode cJ2_finishToArray 32 = .ok (.invokestatic 31, 3) := dk_184 0 31 (dk_at dksJ2_finishToArray_1 8 rfl rfl)
theorem dJ2_finishToArray_35 : decode cJ2_finishToArray 35 = .ok (.astore_n 0, 1) := dk_75 (dk_at dksJ2_finishToArray_1 11 rfl rfl)
theorem dJ2_finishToArray_36 : decode cJ2_finishToArray 36 = .ok (.aload_n 0, 1) := dk_42 (dk_at dksJ2_finishToArray_1 12 rfl rfl)
theorem dJ2_finishToArray_37 : decode cJ2_finishToArray 37 = .ok (.iload_n 3, 1) := dk_29 (dk_at dksJ2_finishToArray_1 13 rfl rfl)
theorem dJ2_finishToArray_38 : decode cJ2_finishToArray 38 = .ok (.iinc 3 1, 3) := dk_132 3 1 (dk_at dksJ2_finishToArray_1 14 rfl rfl)
theorem dJ2_finishToArray_41 : decode cJ2_finishToArray 41 = .ok (.aload_n 1, 1) := dk_43 (dk_at dksJ2_finishToArray_1 17 rfl rfl)
theorem dJ2_finishToArray_42 : decode cJ2_finishToArray 42 = .ok (.invokeinterface 23 1, 5) := by decide +kernel
theorem dJ2_finishToArray_47 : decode cJ2_finishToArray 47 = .ok (.aastore, 1) := dk_83 (dk_at dksJ2_finishToArray_1 23 rfl rfl)
theorem dJ2_finishToArray_48 : decode cJ2_finishToArray 48 = .ok (.goto (-43), 3) := dk_167 255 213 (dk_at dksJ2_finishToArray_2 0 rfl rfl)
theorem dJ2_finishToArray_51 : decode cJ2_finishToArray 51 = .ok (.iload_n 3, 1) := dk_29 (dk_at dksJ2_finishToArray_2 3 rfl rfl)
theorem dJ2_finishToArray_52 : decode cJ2_finishToArray 52 = .ok (.iload_n 2, 1) := dk_28 (dk_at dksJ2_finishToArray_2 4 rfl rfl)
theorem dJ2_finishToArray_53 : decode cJ2_finishToArray 53 = .ok (.if_icmp .ne 7, 3) := dk_160 0 7 (dk_at dksJ2_finishToArray_2 5 rfl rfl)
theorem dJ2_finishToArray_56 : decode cJ2_finishToArray 56 = .ok (.aload_n 0, 1) := dk_42 (dk_at dksJ2_finishToArray_2 8 rfl rfl)
theorem dJ2_finishToArray_57 : decode cJ2_finishToArray 57 = .ok (.goto 8, 3) := dk_167 0 8 (dk_at dksJ2_finishToArray_2 9 rfl rfl)
theorem dJ2_finishToArray_60 : decode cJ2_finishToArray 60 = .ok (.aload_n 0, 1) := dk_42 (dk_at dksJ2_finishToArray_2 12 rfl rfl)
theorem dJ2_finishToArray_61 : decode cJ2_finishToArray 61 = .ok (.iload_n 3, 1) := dk_29 (dk_at dksJ2_finishToArray_2 13 rfl rfl)
theorem dJ2_finishToArray_62 : decode cJ2_finishToArray 62 = .ok (.invokestatic 31, 3) := dk_184 0 31 (dk_at dksJ2_finishToArray_2 14 rfl rfl)
theorem dJ2_finishToArray_65 : decode cJ2_finishToArray 65 = .ok (.areturn, 1) := dk_176 (dk_at dksJ2_finishToArray_2 17 rfl rfl)
abbrev cJ2_isEmpty : ByteArray := prog_46_method_4_code
def yJ2_isEmpty : MethodName := ⟨RJ2, "isEmpty", "()Z"⟩
def dkwJ2_isEmpty_0 : List UInt8 := [42, 182, 0, 7, 154, 0, 7, 4, 167, 0, 4, 3, 172]
abbrev dktJ2_isEmpty_0 : List UInt8 := dkwJ2_isEmpty_0 ++ []
theorem dksJ2_isEmpty_0 : cJ2_isEmpty.data.toList.drop 0 = dktJ2_isEmpty_0 := by decide +kernel
theorem dJ2_isEmpty_0 : decode cJ2_isEmpty 0 = .ok (.aload_n 0, 1) := dk_42 (dk_at dksJ2_isEmpty_0 0 rfl rfl)
theorem dJ2_isEmpty_1 : decode cJ2_isEmpty 1 = .ok (.invokevirtual 7, 3) := dk_182 0 7 (dk_at dksJ2_isEmpty_0 1 rfl rfl)
theorem dJ2_isEmpty_4 : decode cJ2_isEmpty 4 = .ok (.ifCond .ne 7, 3) := dk_154 0 7 (dk_at dksJ2_isEmpty_0 4 rfl rfl)
theorem dJ2_isEmpty_7 : decode cJ2_isEmpty 7 = .ok (.iconst 1, 1) := dk_4 (dk_at dksJ2_isEmpty_0 7 rfl rfl)
theorem dJ2_isEmpty_8 : decode cJ2_isEmpty 8 = .ok (.goto 4, 3) := dk_167 0 4 (dk_at dksJ2_isEmpty_0 8 rfl rfl)
theorem dJ2_isEmpty_11 : decode cJ2_isEmpty 11 = .ok (.iconst 0, 1) := dk_3 (dk_at dksJ2_isEmpty_0 11 rfl rfl)
theorem dJ2_isEmpty_12 : decode cJ2_isEmpty 12 = .ok (.ireturn, 1) := dk_172 (dk_at dksJ2_isEmpty_0 12 rfl rfl)
abbrev cJ3_init : ByteArray := prog_47_method_1_code
def yJ3_init : MethodName := ⟨RJ3, "<init>", "()V"⟩
def dkwJ3_init_0 : List UInt8 := [42, 183, 0, 1, 42, 3, 181, 0, 7, 177]
abbrev dktJ3_init_0 : List UInt8 := dkwJ3_init_0 ++ []
theorem dksJ3_init_0 : cJ3_init.data.toList.drop 0 = dktJ3_init_0 := by decide +kernel
theorem dJ3_init_0 : decode cJ3_init 0 = .ok (.aload_n 0, 1) := dk_42 (dk_at dksJ3_init_0 0 rfl rfl)
theorem dJ3_init_1 : decode cJ3_init 1 = .ok (.invokespecial 1, 3) := dk_183 0 1 (dk_at dksJ3_init_0 1 rfl rfl)
theorem dJ3_init_4 : decode cJ3_init 4 = .ok (.aload_n 0, 1) := dk_42 (dk_at dksJ3_init_0 4 rfl rfl)
theorem dJ3_init_5 : decode cJ3_init 5 = .ok (.iconst 0, 1) := dk_3 (dk_at dksJ3_init_0 5 rfl rfl)
theorem dJ3_init_6 : decode cJ3_init 6 = .ok (.putfield 7, 3) := dk_181 0 7 (dk_at dksJ3_init_0 6 rfl rfl)
theorem dJ3_init_9 : decode cJ3_init 9 = .ok (.return_, 1) := dk_177 (dk_at dksJ3_init_0 9 rfl rfl)
abbrev cJ3_listIterator : ByteArray := prog_47_method_12_code
def yJ3_listIterator : MethodName := ⟨RJ3, "listIterator", "()Ljava/util/ListIterator;"⟩
def dkwJ3_listIterator_0 : List UInt8 := [42, 3, 182, 0, 47, 176]
abbrev dktJ3_listIterator_0 : List UInt8 := dkwJ3_listIterator_0 ++ []
theorem dksJ3_listIterator_0 : cJ3_listIterator.data.toList.drop 0 = dktJ3_listIterator_0 := by decide +kernel
theorem dJ3_listIterator_0 : decode cJ3_listIterator 0 = .ok (.aload_n 0, 1) := dk_42 (dk_at dksJ3_listIterator_0 0 rfl rfl)
theorem dJ3_listIterator_1 : decode cJ3_listIterator 1 = .ok (.iconst 0, 1) := dk_3 (dk_at dksJ3_listIterator_0 1 rfl rfl)
theorem dJ3_listIterator_2 : decode cJ3_listIterator 2 = .ok (.invokevirtual 47, 3) := dk_182 0 47 (dk_at dksJ3_listIterator_0 2 rfl rfl)
theorem dJ3_listIterator_5 : decode cJ3_listIterator 5 = .ok (.areturn, 1) := dk_176 (dk_at dksJ3_listIterator_0 5 rfl rfl)
abbrev cJ4_init : ByteArray := prog_56_method_2_code
def yJ4_init : MethodName := ⟨RJ4, "<init>", "()V"⟩
def dkwJ4_init_0 : List UInt8 := [42, 183, 0, 1, 42, 178, 0, 39, 181, 0, 9, 177]
abbrev dktJ4_init_0 : List UInt8 := dkwJ4_init_0 ++ []
theorem dksJ4_init_0 : cJ4_init.data.toList.drop 0 = dktJ4_init_0 := by decide +kernel
theorem dJ4_init_0 : decode cJ4_init 0 = .ok (.aload_n 0, 1) := dk_42 (dk_at dksJ4_init_0 0 rfl rfl)
theorem dJ4_init_1 : decode cJ4_init 1 = .ok (.invokespecial 1, 3) := dk_183 0 1 (dk_at dksJ4_init_0 1 rfl rfl)
theorem dJ4_init_4 : decode cJ4_init 4 = .ok (.aload_n 0, 1) := dk_42 (dk_at dksJ4_init_0 4 rfl rfl)
theorem dJ4_init_5 : decode cJ4_init 5 = .ok (.getstatic 39, 3) := dk_178 0 39 (dk_at dksJ4_init_0 5 rfl rfl)
theorem dJ4_init_8 : decode cJ4_init 8 = .ok (.putfield 9, 3) := dk_181 0 9 (dk_at dksJ4_init_0 8 rfl rfl)
theorem dJ4_init_11 : decode cJ4_init 11 = .ok (.return_, 1) := dk_177 (dk_at dksJ4_init_0 11 rfl rfl)
abbrev cJ4_clear : ByteArray := prog_56_method_40_code
def yJ4_clear : MethodName := ⟨RJ4, "clear", "()V"⟩
def dkwJ4_clear_1 : List UInt8 := [181, 0, 48, 62, 29, 28, 162, 0, 13, 43, 29, 1, 83, 132, 3, 1, 167, 255, 244, 177]
abbrev dktJ4_clear_1 : List UInt8 := dkwJ4_clear_1 ++ []
def dkwJ4_clear_0 : List UInt8 := [42, 89, 180, 0, 63, 4, 96, 181, 0, 63, 42, 180, 0, 9, 76, 42, 180, 0, 48, 61, 42, 3, 90]
abbrev dktJ4_clear_0 : List UInt8 := dkwJ4_clear_0 ++ dktJ4_clear_1
theorem dksJ4_clear_0 : cJ4_clear.data.toList.drop 0 = dktJ4_clear_0 := by decide +kernel
theorem dksJ4_clear_1 : cJ4_clear.data.toList.drop 23 = dktJ4_clear_1 := dk_seg dksJ4_clear_0 23 rfl rfl
theorem dJ4_clear_0 : decode cJ4_clear 0 = .ok (.aload_n 0, 1) := dk_42 (dk_at dksJ4_clear_0 0 rfl rfl)
theorem dJ4_clear_1 : decode cJ4_clear 1 = .ok (.dup, 1) := dk_89 (dk_at dksJ4_clear_0 1 rfl rfl)
theorem dJ4_clear_2 : decode cJ4_clear 2 = .ok (.getfield 63, 3) := dk_180 0 63 (dk_at dksJ4_clear_0 2 rfl rfl)
theorem dJ4_clear_5 : decode cJ4_clear 5 = .ok (.iconst 1, 1) := dk_4 (dk_at dksJ4_clear_0 5 rfl rfl)
theorem dJ4_clear_6 : decode cJ4_clear 6 = .ok (.iadd, 1) := dk_96 (dk_at dksJ4_clear_0 6 rfl rfl)
theorem dJ4_clear_7 : decode cJ4_clear 7 = .ok (.putfield 63, 3) := dk_181 0 63 (dk_at dksJ4_clear_0 7 rfl rfl)
theorem dJ4_clear_10 : decode cJ4_clear 10 = .ok (.aload_n 0, 1) := dk_42 (dk_at dksJ4_clear_0 10 rfl rfl)
theorem dJ4_clear_11 : decode cJ4_clear 11 = .ok (.getfield 9, 3) := dk_180 0 9 (dk_at dksJ4_clear_0 11 rfl rfl)
theorem dJ4_clear_14 : decode cJ4_clear 14 = .ok (.astore_n 1, 1) := dk_76 (dk_at dksJ4_clear_0 14 rfl rfl)
theorem dJ4_clear_15 : decode cJ4_clear 15 = .ok (.aload_n 0, 1) := dk_42 (dk_at dksJ4_clear_0 15 rfl rfl)
theorem dJ4_clear_16 : decode cJ4_clear 16 = .ok (.getfield 48, 3) := dk_180 0 48 (dk_at dksJ4_clear_0 16 rfl rfl)
theorem dJ4_clear_19 : decode cJ4_clear 19 = .ok (.istore_n 2, 1) := dk_61 (dk_at dksJ4_clear_0 19 rfl rfl)
theorem dJ4_clear_20 : decode cJ4_clear 20 = .ok (.aload_n 0, 1) := dk_42 (dk_at dksJ4_clear_0 20 rfl rfl)
theorem dJ4_clear_21 : decode cJ4_clear 21 = .ok (.iconst 0, 1) := dk_3 (dk_at dksJ4_clear_0 21 rfl rfl)
theorem dJ4_clear_22 : decode cJ4_clear 22 = .ok (.dup_x1, 1) := dk_90 (dk_at dksJ4_clear_0 22 rfl rfl)
theorem dJ4_clear_23 : decode cJ4_clear 23 = .ok (.putfield 48, 3) := dk_181 0 48 (dk_at dksJ4_clear_1 0 rfl rfl)
theorem dJ4_clear_26 : decode cJ4_clear 26 = .ok (.istore_n 3, 1) := dk_62 (dk_at dksJ4_clear_1 3 rfl rfl)
theorem dJ4_clear_27 : decode cJ4_clear 27 = .ok (.iload_n 3, 1) := dk_29 (dk_at dksJ4_clear_1 4 rfl rfl)
theorem dJ4_clear_28 : decode cJ4_clear 28 = .ok (.iload_n 2, 1) := dk_28 (dk_at dksJ4_clear_1 5 rfl rfl)
theorem dJ4_clear_29 : decode cJ4_clear 29 = .ok (.if_icmp .ge 13, 3) := dk_162 0 13 (dk_at dksJ4_clear_1 6 rfl rfl)
theorem dJ4_clear_32 : decode cJ4_clear 32 = .ok (.aload_n 1, 1) := dk_43 (dk_at dksJ4_clear_1 9 rfl rfl)
theorem dJ4_clear_33 : decode cJ4_clear 33 = .ok (.iload_n 3, 1) := dk_29 (dk_at dksJ4_clear_1 10 rfl rfl)
theorem dJ4_clear_34 : decode cJ4_clear 34 = .ok (.aconst_null, 1) := dk_1 (dk_at dksJ4_clear_1 11 rfl rfl)
theorem dJ4_clear_35 : decode cJ4_clear 35 = .ok (.aastore, 1) := dk_83 (dk_at dksJ4_clear_1 12 rfl rfl)
theorem dJ4_clear_36 : decode cJ4_clear 36 = .ok (.iinc 3 1, 3) := dk_132 3 1 (dk_at dksJ4_clear_1 13 rfl rfl)
theorem dJ4_clear_39 : decode cJ4_clear 39 = .ok (.goto (-12), 3) := dk_167 255 244 (dk_at dksJ4_clear_1 16 rfl rfl)
theorem dJ4_clear_42 : decode cJ4_clear 42 = .ok (.return_, 1) := dk_177 (dk_at dksJ4_clear_1 19 rfl rfl)
abbrev cJ4_add : ByteArray := prog_56_method_25_code
def yJ4_add : MethodName := ⟨RJ4, "add", "(Ljava/lang/Object;)Z"⟩
def dkwJ4_add_1 : List UInt8 := [172]
abbrev dktJ4_add_1 : List UInt8 := dkwJ4_add_1 ++ []
def dkwJ4_add_0 : List UInt8 := [42, 89, 180, 0, 63, 4, 96, 181, 0, 63, 42, 43, 42, 180, 0, 9, 42, 180, 0, 48, 182, 0, 131, 4]
abbrev dktJ4_add_0 : List UInt8 := dkwJ4_add_0 ++ dktJ4_add_1
theorem dksJ4_add_0 : cJ4_add.data.toList.drop 0 = dktJ4_add_0 := by decide +kernel
theorem dksJ4_add_1 : cJ4_add.data.toList.drop 24 = dktJ4_add_1 := dk_seg dksJ4_add_0 24 rfl rfl
theorem dJ4_add_0 : decode cJ4_add 0 = .ok (.aload_n 0, 1) := dk_42 (dk_at dksJ4_add_0 0 rfl rfl)
theorem dJ4_add_1 : decode cJ4_add 1 = .ok (.dup, 1) := dk_89 (dk_at dksJ4_add_0 1 rfl rfl)
theorem dJ4_add_2 : decode cJ4_add 2 = .ok (.getfield 63, 3) := dk_180 0 63 (dk_at dksJ4_add_0 2 rfl rfl)
theorem dJ4_add_5 : decode cJ4_add 5 = .ok (.iconst 1, 1) := dk_4 (dk_at dksJ4_add_0 5 rfl rfl)
theorem dJ4_add_6 : decode cJ4_add 6 = .ok (.iadd, 1) := dk_96 (dk_at dksJ4_add_0 6 rfl rfl)
theorem dJ4_add_7 : decode cJ4_add 7 = .ok (.putfield 63, 3) := dk_181 0 63 (dk_at dksJ4_add_0 7 rfl rfl)
theorem dJ4_add_10 : decode cJ4_add 10 = .ok (.aload_n 0, 1) := dk_42 (dk_at dksJ4_add_0 10 rfl rfl)
theorem dJ4_add_11 : decode cJ4_add 11 = .ok (.aload_n 1, 1) := dk_43 (dk_at dksJ4_add_0 11 rfl rfl)
theorem dJ4_add_12 : decode cJ4_add 12 = .ok (.aload_n 0, 1) := dk_42 (dk_at dksJ4_add_0 12 rfl rfl)
theorem dJ4_add_13 : decode cJ4_add 13 = .ok (.getfield 9, 3) := dk_180 0 9 (dk_at dksJ4_add_0 13 rfl rfl)
theorem dJ4_add_16 : decode cJ4_add 16 = .ok (.aload_n 0, 1) := dk_42 (dk_at dksJ4_add_0 16 rfl rfl)
theorem dJ4_add_17 : decode cJ4_add 17 = .ok (.getfield 48, 3) := dk_180 0 48 (dk_at dksJ4_add_0 17 rfl rfl)
theorem dJ4_add_20 : decode cJ4_add 20 = .ok (.invokevirtual 131, 3) := dk_182 0 131 (dk_at dksJ4_add_0 20 rfl rfl)
theorem dJ4_add_23 : decode cJ4_add 23 = .ok (.iconst 1, 1) := dk_4 (dk_at dksJ4_add_0 23 rfl rfl)
theorem dJ4_add_24 : decode cJ4_add 24 = .ok (.ireturn, 1) := dk_172 (dk_at dksJ4_add_1 0 rfl rfl)
abbrev cJ4_add_2 : ByteArray := prog_56_method_24_code
def yJ4_add_2 : MethodName := ⟨RJ4, "add", "(Ljava/lang/Object;[Ljava/lang/Object;I)V"⟩
def dkwJ4_add_2_0 : List UInt8 := [29, 44, 190, 160, 0, 8, 42, 182, 0, 129, 77, 44, 29, 43, 83, 42, 29, 4, 96, 181, 0, 48, 177]
abbrev dktJ4_add_2_0 : List UInt8 := dkwJ4_add_2_0 ++ []
theorem dksJ4_add_2_0 : cJ4_add_2.data.toList.drop 0 = dktJ4_add_2_0 := by decide +kernel
theorem dJ4_add_2_0 : decode cJ4_add_2 0 = .ok (.iload_n 3, 1) := dk_29 (dk_at dksJ4_add_2_0 0 rfl rfl)
theorem dJ4_add_2_1 : decode cJ4_add_2 1 = .ok (.aload_n 2, 1) := dk_44 (dk_at dksJ4_add_2_0 1 rfl rfl)
theorem dJ4_add_2_2 : decode cJ4_add_2 2 = .ok (.arraylength, 1) := dk_190 (dk_at dksJ4_add_2_0 2 rfl rfl)
theorem dJ4_add_2_3 : decode cJ4_add_2 3 = .ok (.if_icmp .ne 8, 3) := dk_160 0 8 (dk_at dksJ4_add_2_0 3 rfl rfl)
theorem dJ4_add_2_6 : decode cJ4_add_2 6 = .ok (.aload_n 0, 1) := dk_42 (dk_at dksJ4_add_2_0 6 rfl rfl)
theorem dJ4_add_2_7 : decode cJ4_add_2 7 = .ok (.invokevirtual 129, 3) := dk_182 0 129 (dk_at dksJ4_add_2_0 7 rfl rfl)
theorem dJ4_add_2_10 : decode cJ4_add_2 10 = .ok (.astore_n 2, 1) := dk_77 (dk_at dksJ4_add_2_0 10 rfl rfl)
theorem dJ4_add_2_11 : decode cJ4_add_2 11 = .ok (.aload_n 2, 1) := dk_44 (dk_at dksJ4_add_2_0 11 rfl rfl)
theorem dJ4_add_2_12 : decode cJ4_add_2 12 = .ok (.iload_n 3, 1) := dk_29 (dk_at dksJ4_add_2_0 12 rfl rfl)
theorem dJ4_add_2_13 : decode cJ4_add_2 13 = .ok (.aload_n 1, 1) := dk_43 (dk_at dksJ4_add_2_0 13 rfl rfl)
theorem dJ4_add_2_14 : decode cJ4_add_2 14 = .ok (.aastore, 1) := dk_83 (dk_at dksJ4_add_2_0 14 rfl rfl)
theorem dJ4_add_2_15 : decode cJ4_add_2 15 = .ok (.aload_n 0, 1) := dk_42 (dk_at dksJ4_add_2_0 15 rfl rfl)
theorem dJ4_add_2_16 : decode cJ4_add_2 16 = .ok (.iload_n 3, 1) := dk_29 (dk_at dksJ4_add_2_0 16 rfl rfl)
theorem dJ4_add_2_17 : decode cJ4_add_2 17 = .ok (.iconst 1, 1) := dk_4 (dk_at dksJ4_add_2_0 17 rfl rfl)
theorem dJ4_add_2_18 : decode cJ4_add_2 18 = .ok (.iadd, 1) := dk_96 (dk_at dksJ4_add_2_0 18 rfl rfl)
theorem dJ4_add_2_19 : decode cJ4_add_2 19 = .ok (.putfield 48, 3) := dk_181 0 48 (dk_at dksJ4_add_2_0 19 rfl rfl)
theorem dJ4_add_2_22 : decode cJ4_add_2 22 = .ok (.return_, 1) := dk_177 (dk_at dksJ4_add_2_0 22 rfl rfl)
abbrev cJ4_grow : ByteArray := prog_56_method_7_code
def yJ4_grow : MethodName := ⟨RJ4, "grow", "()[Ljava/lang/Object;"⟩
def dkwJ4_grow_0 : List UInt8 := [42, 42, 180, 0, 48, 4, 96, 182, 0, 69, 176]
abbrev dktJ4_grow_0 : List UInt8 := dkwJ4_grow_0 ++ []
theorem dksJ4_grow_0 : cJ4_grow.data.toList.drop 0 = dktJ4_grow_0 := by decide +kernel
theorem dJ4_grow_0 : decode cJ4_grow 0 = .ok (.aload_n 0, 1) := dk_42 (dk_at dksJ4_grow_0 0 rfl rfl)
theorem dJ4_grow_1 : decode cJ4_grow 1 = .ok (.aload_n 0, 1) := dk_42 (dk_at dksJ4_grow_0 1 rfl rfl)
theorem dJ4_grow_2 : decode cJ4_grow 2 = .ok (.getfield 48, 3) := dk_180 0 48 (dk_at dksJ4_grow_0 2 rfl rfl)
theorem dJ4_grow_5 : decode cJ4_grow 5 = .ok (.iconst 1, 1) := dk_4 (dk_at dksJ4_grow_0 5 rfl rfl)
theorem dJ4_grow_6 : decode cJ4_grow 6 = .ok (.iadd, 1) := dk_96 (dk_at dksJ4_grow_0 6 rfl rfl)
theorem dJ4_grow_7 : decode cJ4_grow 7 = .ok (.invokevirtual 69, 3) := dk_182 0 69 (dk_at dksJ4_grow_0 7 rfl rfl)
theorem dJ4_grow_10 : decode cJ4_grow 10 = .ok (.areturn, 1) := dk_176 (dk_at dksJ4_grow_0 10 rfl rfl)
abbrev cJ4_grow_2 : ByteArray := prog_56_method_6_code
def yJ4_grow_2 : MethodName := ⟨RJ4, "grow", "(I)[Ljava/lang/Object;"⟩
def dkwJ4_grow_2_2 : List UInt8 := [27, 184, 0, 79, 189, 0, 7, 90, 181, 0, 9, 176]
abbrev dktJ4_grow_2_2 : List UInt8 := dkwJ4_grow_2_2 ++ []
def dkwJ4_grow_2_1 : List UInt8 := [28, 4, 122, 184, 0, 73, 62, 42, 42, 180, 0, 9, 29, 184, 0, 66, 90, 181, 0, 9, 176, 42, 16, 10]
abbrev dktJ4_grow_2_1 : List UInt8 := dkwJ4_grow_2_1 ++ dktJ4_grow_2_2
def dkwJ4_grow_2_0 : List UInt8 := [42, 180, 0, 9, 190, 61, 28, 157, 0, 13, 42, 180, 0, 9, 178, 0, 39, 165, 0, 28, 28, 27, 28, 100]
abbrev dktJ4_grow_2_0 : List UInt8 := dkwJ4_grow_2_0 ++ dktJ4_grow_2_1
theorem dksJ4_grow_2_0 : cJ4_grow_2.data.toList.drop 0 = dktJ4_grow_2_0 := by decide +kernel
theorem dksJ4_grow_2_1 : cJ4_grow_2.data.toList.drop 24 = dktJ4_grow_2_1 := dk_seg dksJ4_grow_2_0 24 rfl rfl
theorem dksJ4_grow_2_2 : cJ4_grow_2.data.toList.drop 48 = dktJ4_grow_2_2 := dk_seg dksJ4_grow_2_1 24 rfl rfl
theorem dJ4_grow_2_0 : decode cJ4_grow_2 0 = .ok (.aload_n 0, 1) := dk_42 (dk_at dksJ4_grow_2_0 0 rfl rfl)
theorem dJ4_grow_2_1 : decode cJ4_grow_2 1 = .ok (.getfield 9, 3) := dk_180 0 9 (dk_at dksJ4_grow_2_0 1 rfl rfl)
theorem dJ4_grow_2_4 : decode cJ4_grow_2 4 = .ok (.arraylength, 1) := dk_190 (dk_at dksJ4_grow_2_0 4 rfl rfl)
theorem dJ4_grow_2_5 : decode cJ4_grow_2 5 = .ok (.istore_n 2, 1) := dk_61 (dk_at dksJ4_grow_2_0 5 rfl rfl)
theorem dJ4_grow_2_6 : decode cJ4_grow_2 6 = .ok (.iload_n 2, 1) := dk_28 (dk_at dksJ4_grow_2_0 6 rfl rfl)
theorem dJ4_grow_2_7 : decode cJ4_grow_2 7 = .ok (.ifCond .gt 13, 3) := dk_157 0 13 (dk_at dksJ4_grow_2_0 7 rfl rfl)
theorem dJ4_grow_2_10 : decode cJ4_grow_2 10 = .ok (.aload_n 0, 1) := dk_42 (dk_at dksJ4_grow_2_0 10 rfl rfl)
theorem dJ4_grow_2_11 : decode cJ4_grow_2 11 = .ok (.getfield 9, 3) := dk_180 0 9 (dk_at dksJ4_grow_2_0 11 rfl rfl)
theorem dJ4_grow_2_14 : decode cJ4_grow_2 14 = .ok (.getstatic 39, 3) := dk_178 0 39 (dk_at dksJ4_grow_2_0 14 rfl rfl)
theorem dJ4_grow_2_17 : decode cJ4_grow_2 17 = .ok (.if_acmp .eq 28, 3) := dk_165 0 28 (dk_at dksJ4_grow_2_0 17 rfl rfl)
theorem dJ4_grow_2_20 : decode cJ4_grow_2 20 = .ok (.iload_n 2, 1) := dk_28 (dk_at dksJ4_grow_2_0 20 rfl rfl)
theorem dJ4_grow_2_21 : decode cJ4_grow_2 21 = .ok (.iload_n 1, 1) := dk_27 (dk_at dksJ4_grow_2_0 21 rfl rfl)
theorem dJ4_grow_2_22 : decode cJ4_grow_2 22 = .ok (.iload_n 2, 1) := dk_28 (dk_at dksJ4_grow_2_0 22 rfl rfl)
theorem dJ4_grow_2_23 : decode cJ4_grow_2 23 = .ok (.isub, 1) := dk_100 (dk_at dksJ4_grow_2_0 23 rfl rfl)
theorem dJ4_grow_2_24 : decode cJ4_grow_2 24 = .ok (.iload_n 2, 1) := dk_28 (dk_at dksJ4_grow_2_1 0 rfl rfl)
theorem dJ4_grow_2_25 : decode cJ4_grow_2 25 = .ok (.iconst 1, 1) := dk_4 (dk_at dksJ4_grow_2_1 1 rfl rfl)
theorem dJ4_grow_2_26 : decode cJ4_grow_2 26 = .ok (.ishr, 1) := dk_122 (dk_at dksJ4_grow_2_1 2 rfl rfl)
theorem dJ4_grow_2_27 : decode cJ4_grow_2 27 = .ok (.invokestatic 73, 3) := dk_184 0 73 (dk_at dksJ4_grow_2_1 3 rfl rfl)
theorem dJ4_grow_2_30 : decode cJ4_grow_2 30 = .ok (.istore_n 3, 1) := dk_62 (dk_at dksJ4_grow_2_1 6 rfl rfl)
theorem dJ4_grow_2_31 : decode cJ4_grow_2 31 = .ok (.aload_n 0, 1) := dk_42 (dk_at dksJ4_grow_2_1 7 rfl rfl)
theorem dJ4_grow_2_32 : decode cJ4_grow_2 32 = .ok (.aload_n 0, 1) := dk_42 (dk_at dksJ4_grow_2_1 8 rfl rfl)
theorem dJ4_grow_2_33 : decode cJ4_grow_2 33 = .ok (.getfield 9, 3) := dk_180 0 9 (dk_at dksJ4_grow_2_1 9 rfl rfl)
theorem dJ4_grow_2_36 : decode cJ4_grow_2 36 = .ok (.iload_n 3, 1) := dk_29 (dk_at dksJ4_grow_2_1 12 rfl rfl)
theorem dJ4_grow_2_37 : decode cJ4_grow_2 37 = .ok (.invokestatic 66, 3) := dk_184 0 66 (dk_at dksJ4_grow_2_1 13 rfl rfl)
theorem dJ4_grow_2_40 : decode cJ4_grow_2 40 = .ok (.dup_x1, 1) := dk_90 (dk_at dksJ4_grow_2_1 16 rfl rfl)
theorem dJ4_grow_2_41 : decode cJ4_grow_2 41 = .ok (.putfield 9, 3) := dk_181 0 9 (dk_at dksJ4_grow_2_1 17 rfl rfl)
theorem dJ4_grow_2_44 : decode cJ4_grow_2 44 = .ok (.areturn, 1) := dk_176 (dk_at dksJ4_grow_2_1 20 rfl rfl)
theorem dJ4_grow_2_45 : decode cJ4_grow_2 45 = .ok (.aload_n 0, 1) := dk_42 (dk_at dksJ4_grow_2_1 21 rfl rfl)
theorem dJ4_grow_2_46 : decode cJ4_grow_2 46 = .ok (.bipush 10, 2) := dk_16 10 (dk_at dksJ4_grow_2_1 22 rfl rfl)
theorem dJ4_grow_2_48 : decode cJ4_grow_2 48 = .ok (.iload_n 1, 1) := dk_27 (dk_at dksJ4_grow_2_2 0 rfl rfl)
theorem dJ4_grow_2_49 : decode cJ4_grow_2 49 = .ok (.invokestatic 79, 3) := dk_184 0 79 (dk_at dksJ4_grow_2_2 1 rfl rfl)
theorem dJ4_grow_2_52 : decode cJ4_grow_2 52 = .ok (.anewarray 7, 3) := dk_189 0 7 (dk_at dksJ4_grow_2_2 4 rfl rfl)
theorem dJ4_grow_2_55 : decode cJ4_grow_2 55 = .ok (.dup_x1, 1) := dk_90 (dk_at dksJ4_grow_2_2 7 rfl rfl)
theorem dJ4_grow_2_56 : decode cJ4_grow_2 56 = .ok (.putfield 9, 3) := dk_181 0 9 (dk_at dksJ4_grow_2_2 8 rfl rfl)
theorem dJ4_grow_2_59 : decode cJ4_grow_2 59 = .ok (.areturn, 1) := dk_176 (dk_at dksJ4_grow_2_2 11 rfl rfl)
abbrev cJ4_get : ByteArray := prog_56_method_20_code
def yJ4_get : MethodName := ⟨RJ4, "get", "(I)Ljava/lang/Object;"⟩
def dkwJ4_get_0 : List UInt8 := [27, 42, 180, 0, 48, 184, 0, 118, 87, 42, 27, 182, 0, 123, 176]
abbrev dktJ4_get_0 : List UInt8 := dkwJ4_get_0 ++ []
theorem dksJ4_get_0 : cJ4_get.data.toList.drop 0 = dktJ4_get_0 := by decide +kernel
theorem dJ4_get_0 : decode cJ4_get 0 = .ok (.iload_n 1, 1) := dk_27 (dk_at dksJ4_get_0 0 rfl rfl)
theorem dJ4_get_1 : decode cJ4_get 1 = .ok (.aload_n 0, 1) := dk_42 (dk_at dksJ4_get_0 1 rfl rfl)
theorem dJ4_get_2 : decode cJ4_get 2 = .ok (.getfield 48, 3) := dk_180 0 48 (dk_at dksJ4_get_0 2 rfl rfl)
theorem dJ4_get_5 : decode cJ4_get 5 = .ok (.invokestatic 118, 3) := dk_184 0 118 (dk_at dksJ4_get_0 5 rfl rfl)
theorem dJ4_get_8 : decode cJ4_get 8 = .ok (.pop, 1) := dk_87 (dk_at dksJ4_get_0 8 rfl rfl)
theorem dJ4_get_9 : decode cJ4_get 9 = .ok (.aload_n 0, 1) := dk_42 (dk_at dksJ4_get_0 9 rfl rfl)
theorem dJ4_get_10 : decode cJ4_get 10 = .ok (.iload_n 1, 1) := dk_27 (dk_at dksJ4_get_0 10 rfl rfl)
theorem dJ4_get_11 : decode cJ4_get 11 = .ok (.invokevirtual 123, 3) := dk_182 0 123 (dk_at dksJ4_get_0 11 rfl rfl)
theorem dJ4_get_14 : decode cJ4_get 14 = .ok (.areturn, 1) := dk_176 (dk_at dksJ4_get_0 14 rfl rfl)
abbrev cJ4_elementData : ByteArray := prog_56_method_18_code
def yJ4_elementData : MethodName := ⟨RJ4, "elementData", "(I)Ljava/lang/Object;"⟩
def dkwJ4_elementData_0 : List UInt8 := [42, 180, 0, 9, 27, 50, 176]
abbrev dktJ4_elementData_0 : List UInt8 := dkwJ4_elementData_0 ++ []
theorem dksJ4_elementData_0 : cJ4_elementData.data.toList.drop 0 = dktJ4_elementData_0 := by decide +kernel
theorem dJ4_elementData_0 : decode cJ4_elementData 0 = .ok (.aload_n 0, 1) := dk_42 (dk_at dksJ4_elementData_0 0 rfl rfl)
theorem dJ4_elementData_1 : decode cJ4_elementData 1 = .ok (.getfield 9, 3) := dk_180 0 9 (dk_at dksJ4_elementData_0 1 rfl rfl)
theorem dJ4_elementData_4 : decode cJ4_elementData 4 = .ok (.iload_n 1, 1) := dk_27 (dk_at dksJ4_elementData_0 4 rfl rfl)
theorem dJ4_elementData_5 : decode cJ4_elementData 5 = .ok (.aaload, 1) := dk_50 (dk_at dksJ4_elementData_0 5 rfl rfl)
theorem dJ4_elementData_6 : decode cJ4_elementData 6 = .ok (.areturn, 1) := dk_176 (dk_at dksJ4_elementData_0 6 rfl rfl)
abbrev cJ4_size : ByteArray := prog_56_method_8_code
def yJ4_size : MethodName := ⟨RJ4, "size", "()I"⟩
theorem dJ4_size_0 : decode cJ4_size 0 = .ok (.aload_n 0, 1) := by decide +kernel
theorem dJ4_size_1 : decode cJ4_size 1 = .ok (.getfield 48, 3) := by decide +kernel
theorem dJ4_size_4 : decode cJ4_size 4 = .ok (.ireturn, 1) := by decide +kernel
abbrev cJ4_iterator : ByteArray := prog_56_method_55_code
def yJ4_iterator : MethodName := ⟨RJ4, "iterator", "()Ljava/util/Iterator;"⟩
def dkwJ4_iterator_0 : List UInt8 := [187, 1, 11, 89, 42, 183, 1, 13, 176]
abbrev dktJ4_iterator_0 : List UInt8 := dkwJ4_iterator_0 ++ []
theorem dksJ4_iterator_0 : cJ4_iterator.data.toList.drop 0 = dktJ4_iterator_0 := by decide +kernel
theorem dJ4_iterator_0 : decode cJ4_iterator 0 = .ok (.new 267, 3) := dk_187 1 11 (dk_at dksJ4_iterator_0 0 rfl rfl)
theorem dJ4_iterator_3 : decode cJ4_iterator 3 = .ok (.dup, 1) := dk_89 (dk_at dksJ4_iterator_0 3 rfl rfl)
theorem dJ4_iterator_4 : decode cJ4_iterator 4 = .ok (.aload_n 0, 1) := dk_42 (dk_at dksJ4_iterator_0 4 rfl rfl)
theorem dJ4_iterator_5 : decode cJ4_iterator 5 = .ok (.invokespecial 269, 3) := dk_183 1 13 (dk_at dksJ4_iterator_0 5 rfl rfl)
theorem dJ4_iterator_8 : decode cJ4_iterator 8 = .ok (.areturn, 1) := dk_176 (dk_at dksJ4_iterator_0 8 rfl rfl)
abbrev cJ4_listIterator : ByteArray := prog_56_method_53_code
def yJ4_listIterator : MethodName := ⟨RJ4, "listIterator", "(I)Ljava/util/ListIterator;"⟩
def dkwJ4_listIterator_0 : List UInt8 := [42, 27, 182, 0, 135, 187, 1, 6, 89, 42, 27, 183, 1, 8, 176]
abbrev dktJ4_listIterator_0 : List UInt8 := dkwJ4_listIterator_0 ++ []
theorem dksJ4_listIterator_0 : cJ4_listIterator.data.toList.drop 0 = dktJ4_listIterator_0 := by decide +kernel
theorem dJ4_listIterator_0 : decode cJ4_listIterator 0 = .ok (.aload_n 0, 1) := dk_42 (dk_at dksJ4_listIterator_0 0 rfl rfl)
theorem dJ4_listIterator_1 : decode cJ4_listIterator 1 = .ok (.iload_n 1, 1) := dk_27 (dk_at dksJ4_listIterator_0 1 rfl rfl)
theorem dJ4_listIterator_2 : decode cJ4_listIterator 2 = .ok (.invokevirtual 135, 3) := dk_182 0 135 (dk_at dksJ4_listIterator_0 2 rfl rfl)
theorem dJ4_listIterator_5 : decode cJ4_listIterator 5 = .ok (.new 262, 3) := dk_187 1 6 (dk_at dksJ4_listIterator_0 5 rfl rfl)
theorem dJ4_listIterator_8 : decode cJ4_listIterator 8 = .ok (.dup, 1) := dk_89 (dk_at dksJ4_listIterator_0 8 rfl rfl)
theorem dJ4_listIterator_9 : decode cJ4_listIterator 9 = .ok (.aload_n 0, 1) := dk_42 (dk_at dksJ4_listIterator_0 9 rfl rfl)
theorem dJ4_listIterator_10 : decode cJ4_listIterator 10 = .ok (.iload_n 1, 1) := dk_27 (dk_at dksJ4_listIterator_0 10 rfl rfl)
theorem dJ4_listIterator_11 : decode cJ4_listIterator 11 = .ok (.invokespecial 264, 3) := dk_183 1 8 (dk_at dksJ4_listIterator_0 11 rfl rfl)
theorem dJ4_listIterator_14 : decode cJ4_listIterator 14 = .ok (.areturn, 1) := dk_176 (dk_at dksJ4_listIterator_0 14 rfl rfl)
abbrev cJ4_rangeCheckForAdd : ByteArray := prog_56_method_45_code
def yJ4_rangeCheckForAdd : MethodName := ⟨RJ4, "rangeCheckForAdd", "(I)V"⟩
def dkwJ4_rangeCheckForAdd_1 : List UInt8 := [191, 177]
abbrev dktJ4_rangeCheckForAdd_1 : List UInt8 := dkwJ4_rangeCheckForAdd_1 ++ []
def dkwJ4_rangeCheckForAdd_0 : List UInt8 := [27, 42, 180, 0, 48, 163, 0, 7, 27, 156, 0, 16, 187, 0, 187, 89, 42, 27, 182, 0, 198, 183, 0, 193]
abbrev dktJ4_rangeCheckForAdd_0 : List UInt8 := dkwJ4_rangeCheckForAdd_0 ++ dktJ4_rangeCheckForAdd_1
theorem dksJ4_rangeCheckForAdd_0 : cJ4_rangeCheckForAdd.data.toList.drop 0 = dktJ4_rangeCheckForAdd_0 := by decide +kernel
theorem dksJ4_rangeCheckForAdd_1 : cJ4_rangeCheckForAdd.data.toList.drop 24 = dktJ4_rangeCheckForAdd_1 := dk_seg dksJ4_rangeCheckForAdd_0 24 rfl rfl
theorem dJ4_rangeCheckForAdd_0 : decode cJ4_rangeCheckForAdd 0 = .ok (.iload_n 1, 1) := dk_27 (dk_at dksJ4_rangeCheckForAdd_0 0 rfl rfl)
theorem dJ4_rangeCheckForAdd_1 : decode cJ4_rangeCheckForAdd 1 = .ok (.aload_n 0, 1) := dk_42 (dk_at dksJ4_rangeCheckForAdd_0 1 rfl rfl)
theorem dJ4_rangeCheckForAdd_2 : decode cJ4_rangeCheckForAdd 2 = .ok (.getfield 48, 3) := dk_180 0 48 (dk_at dksJ4_rangeCheckForAdd_0 2 rfl rfl)
theorem dJ4_rangeCheckForAdd_5 : decode cJ4_rangeCheckForAdd 5 = .ok (.if_icmp .gt 7, 3) := dk_163 0 7 (dk_at dksJ4_rangeCheckForAdd_0 5 rfl rfl)
theorem dJ4_rangeCheckForAdd_8 : decode cJ4_rangeCheckForAdd 8 = .ok (.iload_n 1, 1) := dk_27 (dk_at dksJ4_rangeCheckForAdd_0 8 rfl rfl)
theorem dJ4_rangeCheckForAdd_9 : decode cJ4_rangeCheckForAdd 9 = .ok (.ifCond .ge 16, 3) := dk_156 0 16 (dk_at dksJ4_rangeCheckForAdd_0 9 rfl rfl)
theorem dJ4_rangeCheckForAdd_12 : decode cJ4_rangeCheckForAdd 12 = .ok (.new 187, 3) := dk_187 0 187 (dk_at dksJ4_rangeCheckForAdd_0 12 rfl rfl)
theorem dJ4_rangeCheckForAdd_15 : decode cJ4_rangeCheckForAdd 15 = .ok (.dup, 1) := dk_89 (dk_at dksJ4_rangeCheckForAdd_0 15 rfl rfl)
theorem dJ4_rangeCheckForAdd_16 : decode cJ4_rangeCheckForAdd 16 = .ok (.aload_n 0, 1) := dk_42 (dk_at dksJ4_rangeCheckForAdd_0 16 rfl rfl)
theorem dJ4_rangeCheckForAdd_17 : decode cJ4_rangeCheckForAdd 17 = .ok (.iload_n 1, 1) := dk_27 (dk_at dksJ4_rangeCheckForAdd_0 17 rfl rfl)
theorem dJ4_rangeCheckForAdd_18 : decode cJ4_rangeCheckForAdd 18 = .ok (.invokevirtual 198, 3) := dk_182 0 198 (dk_at dksJ4_rangeCheckForAdd_0 18 rfl rfl)
theorem dJ4_rangeCheckForAdd_21 : decode cJ4_rangeCheckForAdd 21 = .ok (.invokespecial 193, 3) := dk_183 0 193 (dk_at dksJ4_rangeCheckForAdd_0 21 rfl rfl)
theorem dJ4_rangeCheckForAdd_24 : decode cJ4_rangeCheckForAdd 24 = .ok (.athrow, 1) := dk_191 (dk_at dksJ4_rangeCheckForAdd_1 0 rfl rfl)
theorem dJ4_rangeCheckForAdd_25 : decode cJ4_rangeCheckForAdd 25 = .ok (.return_, 1) := dk_177 (dk_at dksJ4_rangeCheckForAdd_1 1 rfl rfl)
abbrev cJ4_outOfBoundsMsg : ByteArray := prog_56_method_46_code
def yJ4_outOfBoundsMsg : MethodName := ⟨RJ4, "outOfBoundsMsg", "(I)Ljava/lang/String;"⟩
def dkwJ4_outOfBoundsMsg_1 : List UInt8 := [180, 0, 48, 182, 0, 29, 182, 0, 32, 176]
abbrev dktJ4_outOfBoundsMsg_1 : List UInt8 := dkwJ4_outOfBoundsMsg_1 ++ []
def dkwJ4_outOfBoundsMsg_0 : List UInt8 := [187, 0, 20, 89, 183, 0, 22, 18, 201, 182, 0, 25, 27, 182, 0, 29, 18, 203, 182, 0, 25, 42]
abbrev dktJ4_outOfBoundsMsg_0 : List UInt8 := dkwJ4_outOfBoundsMsg_0 ++ dktJ4_outOfBoundsMsg_1
theorem dksJ4_outOfBoundsMsg_0 : cJ4_outOfBoundsMsg.data.toList.drop 0 = dktJ4_outOfBoundsMsg_0 := by decide +kernel
theorem dksJ4_outOfBoundsMsg_1 : cJ4_outOfBoundsMsg.data.toList.drop 22 = dktJ4_outOfBoundsMsg_1 := dk_seg dksJ4_outOfBoundsMsg_0 22 rfl rfl
theorem dJ4_outOfBoundsMsg_0 : decode cJ4_outOfBoundsMsg 0 = .ok (.new 20, 3) := dk_187 0 20 (dk_at dksJ4_outOfBoundsMsg_0 0 rfl rfl)
theorem dJ4_outOfBoundsMsg_3 : decode cJ4_outOfBoundsMsg 3 = .ok (.dup, 1) := dk_89 (dk_at dksJ4_outOfBoundsMsg_0 3 rfl rfl)
theorem dJ4_outOfBoundsMsg_4 : decode cJ4_outOfBoundsMsg 4 = .ok (.invokespecial 22, 3) := dk_183 0 22 (dk_at dksJ4_outOfBoundsMsg_0 4 rfl rfl)
theorem dJ4_outOfBoundsMsg_7 : decode cJ4_outOfBoundsMsg 7 = .ok (.ldc 201, 2) := dk_18 201 (dk_at dksJ4_outOfBoundsMsg_0 7 rfl rfl)
theorem dJ4_outOfBoundsMsg_9 : decode cJ4_outOfBoundsMsg 9 = .ok (.invokevirtual 25, 3) := dk_182 0 25 (dk_at dksJ4_outOfBoundsMsg_0 9 rfl rfl)
theorem dJ4_outOfBoundsMsg_12 : decode cJ4_outOfBoundsMsg 12 = .ok (.iload_n 1, 1) := dk_27 (dk_at dksJ4_outOfBoundsMsg_0 12 rfl rfl)
theorem dJ4_outOfBoundsMsg_13 : decode cJ4_outOfBoundsMsg 13 = .ok (.invokevirtual 29, 3) := dk_182 0 29 (dk_at dksJ4_outOfBoundsMsg_0 13 rfl rfl)
theorem dJ4_outOfBoundsMsg_16 : decode cJ4_outOfBoundsMsg 16 = .ok (.ldc 203, 2) := dk_18 203 (dk_at dksJ4_outOfBoundsMsg_0 16 rfl rfl)
theorem dJ4_outOfBoundsMsg_18 : decode cJ4_outOfBoundsMsg 18 = .ok (.invokevirtual 25, 3) := dk_182 0 25 (dk_at dksJ4_outOfBoundsMsg_0 18 rfl rfl)
theorem dJ4_outOfBoundsMsg_21 : decode cJ4_outOfBoundsMsg 21 = .ok (.aload_n 0, 1) := dk_42 (dk_at dksJ4_outOfBoundsMsg_0 21 rfl rfl)
theorem dJ4_outOfBoundsMsg_22 : decode cJ4_outOfBoundsMsg 22 = .ok (.getfield 48, 3) := dk_180 0 48 (dk_at dksJ4_outOfBoundsMsg_1 0 rfl rfl)
theorem dJ4_outOfBoundsMsg_25 : decode cJ4_outOfBoundsMsg 25 = .ok (.invokevirtual 29, 3) := dk_182 0 29 (dk_at dksJ4_outOfBoundsMsg_1 3 rfl rfl)
theorem dJ4_outOfBoundsMsg_28 : decode cJ4_outOfBoundsMsg 28 = .ok (.invokevirtual 32, 3) := dk_182 0 32 (dk_at dksJ4_outOfBoundsMsg_1 6 rfl rfl)
theorem dJ4_outOfBoundsMsg_31 : decode cJ4_outOfBoundsMsg 31 = .ok (.areturn, 1) := dk_176 (dk_at dksJ4_outOfBoundsMsg_1 9 rfl rfl)
abbrev cJ4_toArray : ByteArray := prog_56_method_16_code
def yJ4_toArray : MethodName := ⟨RJ4, "toArray", "()[Ljava/lang/Object;"⟩
def dkwJ4_toArray_0 : List UInt8 := [42, 180, 0, 9, 42, 180, 0, 48, 184, 0, 66, 176]
abbrev dktJ4_toArray_0 : List UInt8 := dkwJ4_toArray_0 ++ []
theorem dksJ4_toArray_0 : cJ4_toArray.data.toList.drop 0 = dktJ4_toArray_0 := by decide +kernel
theorem dJ4_toArray_0 : decode cJ4_toArray 0 = .ok (.aload_n 0, 1) := dk_42 (dk_at dksJ4_toArray_0 0 rfl rfl)
theorem dJ4_toArray_1 : decode cJ4_toArray 1 = .ok (.getfield 9, 3) := dk_180 0 9 (dk_at dksJ4_toArray_0 1 rfl rfl)
theorem dJ4_toArray_4 : decode cJ4_toArray 4 = .ok (.aload_n 0, 1) := dk_42 (dk_at dksJ4_toArray_0 4 rfl rfl)
theorem dJ4_toArray_5 : decode cJ4_toArray 5 = .ok (.getfield 48, 3) := dk_180 0 48 (dk_at dksJ4_toArray_0 5 rfl rfl)
theorem dJ4_toArray_8 : decode cJ4_toArray 8 = .ok (.invokestatic 66, 3) := dk_184 0 66 (dk_at dksJ4_toArray_0 8 rfl rfl)
theorem dJ4_toArray_11 : decode cJ4_toArray 11 = .ok (.areturn, 1) := dk_176 (dk_at dksJ4_toArray_0 11 rfl rfl)
abbrev cJ4_addAll : ByteArray := prog_56_method_41_code
def yJ4_addAll : MethodName := ⟨RJ4, "addAll", "(Ljava/util/Collection;)Z"⟩
def dkwJ4_addAll_3 : List UInt8 := [181, 0, 48, 4, 172]
abbrev dktJ4_addAll_3 : List UInt8 := dkwJ4_addAll_3 ++ []
def dkwJ4_addAll_2 : List UInt8 := [21, 5, 29, 96, 182, 0, 69, 58, 4, 44, 3, 25, 4, 21, 5, 29, 184, 0, 112, 42, 21, 5, 29, 96]
abbrev dktJ4_addAll_2 : List UInt8 := dkwJ4_addAll_2 ++ dktJ4_addAll_3
def dkwJ4_addAll_1 : List UInt8 := [3, 172, 29, 42, 180, 0, 9, 89, 58, 4, 190, 42, 180, 0, 48, 89, 54, 5, 100, 164, 0, 13, 42]
abbrev dktJ4_addAll_1 : List UInt8 := dkwJ4_addAll_1 ++ dktJ4_addAll_2
def dkwJ4_addAll_0 : List UInt8 := [43, 185, 0, 42, 1, 0, 77, 42, 89, 180, 0, 63, 4, 96, 181, 0, 63, 44, 190, 62, 29, 154, 0, 5]
abbrev dktJ4_addAll_0 : List UInt8 := dkwJ4_addAll_0 ++ dktJ4_addAll_1
theorem dksJ4_addAll_0 : cJ4_addAll.data.toList.drop 0 = dktJ4_addAll_0 := by decide +kernel
theorem dksJ4_addAll_1 : cJ4_addAll.data.toList.drop 24 = dktJ4_addAll_1 := dk_seg dksJ4_addAll_0 24 rfl rfl
theorem dksJ4_addAll_2 : cJ4_addAll.data.toList.drop 47 = dktJ4_addAll_2 := dk_seg dksJ4_addAll_1 23 rfl rfl
theorem dksJ4_addAll_3 : cJ4_addAll.data.toList.drop 71 = dktJ4_addAll_3 := dk_seg dksJ4_addAll_2 24 rfl rfl
theorem dJ4_addAll_0 : decode cJ4_addAll 0 = .ok (.aload_n 1, 1) := dk_43 (dk_at dksJ4_addAll_0 0 rfl rfl)
theorem dJ4_addAll_1 : decode cJ4_addAll 1 = .ok (.invokeinterface 42 1, 5) := by decide +kernel
theorem dJ4_addAll_6 : decode cJ4_addAll 6 = .ok (.astore_n 2, 1) := dk_77 (dk_at dksJ4_addAll_0 6 rfl rfl)
theorem dJ4_addAll_7 : decode cJ4_addAll 7 = .ok (.aload_n 0, 1) := dk_42 (dk_at dksJ4_addAll_0 7 rfl rfl)
theorem dJ4_addAll_8 : decode cJ4_addAll 8 = .ok (.dup, 1) := dk_89 (dk_at dksJ4_addAll_0 8 rfl rfl)
theorem dJ4_addAll_9 : decode cJ4_addAll 9 = .ok (.getfield 63, 3) := dk_180 0 63 (dk_at dksJ4_addAll_0 9 rfl rfl)
theorem dJ4_addAll_12 : decode cJ4_addAll 12 = .ok (.iconst 1, 1) := dk_4 (dk_at dksJ4_addAll_0 12 rfl rfl)
theorem dJ4_addAll_13 : decode cJ4_addAll 13 = .ok (.iadd, 1) := dk_96 (dk_at dksJ4_addAll_0 13 rfl rfl)
theorem dJ4_addAll_14 : decode cJ4_addAll 14 = .ok (.putfield 63, 3) := dk_181 0 63 (dk_at dksJ4_addAll_0 14 rfl rfl)
theorem dJ4_addAll_17 : decode cJ4_addAll 17 = .ok (.aload_n 2, 1) := dk_44 (dk_at dksJ4_addAll_0 17 rfl rfl)
theorem dJ4_addAll_18 : decode cJ4_addAll 18 = .ok (.arraylength, 1) := dk_190 (dk_at dksJ4_addAll_0 18 rfl rfl)
theorem dJ4_addAll_19 : decode cJ4_addAll 19 = .ok (.istore_n 3, 1) := dk_62 (dk_at dksJ4_addAll_0 19 rfl rfl)
theorem dJ4_addAll_20 : decode cJ4_addAll 20 = .ok (.iload_n 3, 1) := dk_29 (dk_at dksJ4_addAll_0 20 rfl rfl)
theorem dJ4_addAll_21 : decode cJ4_addAll 21 = .ok (.ifCond .ne 5, 3) := dk_154 0 5 (dk_at dksJ4_addAll_0 21 rfl rfl)
theorem dJ4_addAll_24 : decode cJ4_addAll 24 = .ok (.iconst 0, 1) := dk_3 (dk_at dksJ4_addAll_1 0 rfl rfl)
theorem dJ4_addAll_25 : decode cJ4_addAll 25 = .ok (.ireturn, 1) := dk_172 (dk_at dksJ4_addAll_1 1 rfl rfl)
theorem dJ4_addAll_26 : decode cJ4_addAll 26 = .ok (.iload_n 3, 1) := dk_29 (dk_at dksJ4_addAll_1 2 rfl rfl)
theorem dJ4_addAll_27 : decode cJ4_addAll 27 = .ok (.aload_n 0, 1) := dk_42 (dk_at dksJ4_addAll_1 3 rfl rfl)
theorem dJ4_addAll_28 : decode cJ4_addAll 28 = .ok (.getfield 9, 3) := dk_180 0 9 (dk_at dksJ4_addAll_1 4 rfl rfl)
theorem dJ4_addAll_31 : decode cJ4_addAll 31 = .ok (.dup, 1) := dk_89 (dk_at dksJ4_addAll_1 7 rfl rfl)
theorem dJ4_addAll_32 : decode cJ4_addAll 32 = .ok (.astore 4, 2) := dk_58 4 (dk_at dksJ4_addAll_1 8 rfl rfl)
theorem dJ4_addAll_34 : decode cJ4_addAll 34 = .ok (.arraylength, 1) := dk_190 (dk_at dksJ4_addAll_1 10 rfl rfl)
theorem dJ4_addAll_35 : decode cJ4_addAll 35 = .ok (.aload_n 0, 1) := dk_42 (dk_at dksJ4_addAll_1 11 rfl rfl)
theorem dJ4_addAll_36 : decode cJ4_addAll 36 = .ok (.getfield 48, 3) := dk_180 0 48 (dk_at dksJ4_addAll_1 12 rfl rfl)
theorem dJ4_addAll_39 : decode cJ4_addAll 39 = .ok (.dup, 1) := dk_89 (dk_at dksJ4_addAll_1 15 rfl rfl)
theorem dJ4_addAll_40 : decode cJ4_addAll 40 = .ok (.istore 5, 2) := dk_54 5 (dk_at dksJ4_addAll_1 16 rfl rfl)
theorem dJ4_addAll_42 : decode cJ4_addAll 42 = .ok (.isub, 1) := dk_100 (dk_at dksJ4_addAll_1 18 rfl rfl)
theorem dJ4_addAll_43 : decode cJ4_addAll 43 = .ok (.if_icmp .le 13, 3) := dk_164 0 13 (dk_at dksJ4_addAll_1 19 rfl rfl)
theorem dJ4_addAll_46 : decode cJ4_addAll 46 = .ok (.aload_n 0, 1) := dk_42 (dk_at dksJ4_addAll_1 22 rfl rfl)
theorem dJ4_addAll_47 : decode cJ4_addAll 47 = .ok (.iload 5, 2) := dk_21 5 (dk_at dksJ4_addAll_2 0 rfl rfl)
theorem dJ4_addAll_49 : decode cJ4_addAll 49 = .ok (.iload_n 3, 1) := dk_29 (dk_at dksJ4_addAll_2 2 rfl rfl)
theorem dJ4_addAll_50 : decode cJ4_addAll 50 = .ok (.iadd, 1) := dk_96 (dk_at dksJ4_addAll_2 3 rfl rfl)
theorem dJ4_addAll_51 : decode cJ4_addAll 51 = .ok (.invokevirtual 69, 3) := dk_182 0 69 (dk_at dksJ4_addAll_2 4 rfl rfl)
theorem dJ4_addAll_54 : decode cJ4_addAll 54 = .ok (.astore 4, 2) := dk_58 4 (dk_at dksJ4_addAll_2 7 rfl rfl)
theorem dJ4_addAll_56 : decode cJ4_addAll 56 = .ok (.aload_n 2, 1) := dk_44 (dk_at dksJ4_addAll_2 9 rfl rfl)
theorem dJ4_addAll_57 : decode cJ4_addAll 57 = .ok (.iconst 0, 1) := dk_3 (dk_at dksJ4_addAll_2 10 rfl rfl)
theorem dJ4_addAll_58 : decode cJ4_addAll 58 = .ok (.aload 4, 2) := dk_25 4 (dk_at dksJ4_addAll_2 11 rfl rfl)
theorem dJ4_addAll_60 : decode cJ4_addAll 60 = .ok (.iload 5, 2) := dk_21 5 (dk_at dksJ4_addAll_2 13 rfl rfl)
theorem dJ4_addAll_62 : decode cJ4_addAll 62 = .ok (.iload_n 3, 1) := dk_29 (dk_at dksJ4_addAll_2 15 rfl rfl)
theorem dJ4_addAll_63 : decode cJ4_addAll 63 = .ok (.invokestatic 112, 3) := dk_184 0 112 (dk_at dksJ4_addAll_2 16 rfl rfl)
theorem dJ4_addAll_66 : decode cJ4_addAll 66 = .ok (.aload_n 0, 1) := dk_42 (dk_at dksJ4_addAll_2 19 rfl rfl)
theorem dJ4_addAll_67 : decode cJ4_addAll 67 = .ok (.iload 5, 2) := dk_21 5 (dk_at dksJ4_addAll_2 20 rfl rfl)
theorem dJ4_addAll_69 : decode cJ4_addAll 69 = .ok (.iload_n 3, 1) := dk_29 (dk_at dksJ4_addAll_2 22 rfl rfl)
theorem dJ4_addAll_70 : decode cJ4_addAll 70 = .ok (.iadd, 1) := dk_96 (dk_at dksJ4_addAll_2 23 rfl rfl)
theorem dJ4_addAll_71 : decode cJ4_addAll 71 = .ok (.putfield 48, 3) := dk_181 0 48 (dk_at dksJ4_addAll_3 0 rfl rfl)
theorem dJ4_addAll_74 : decode cJ4_addAll 74 = .ok (.iconst 1, 1) := dk_4 (dk_at dksJ4_addAll_3 3 rfl rfl)
theorem dJ4_addAll_75 : decode cJ4_addAll 75 = .ok (.ireturn, 1) := dk_172 (dk_at dksJ4_addAll_3 4 rfl rfl)
abbrev cJ4_isEmpty : ByteArray := prog_56_method_9_code
def yJ4_isEmpty : MethodName := ⟨RJ4, "isEmpty", "()Z"⟩
def dkwJ4_isEmpty_0 : List UInt8 := [42, 180, 0, 48, 154, 0, 7, 4, 167, 0, 4, 3, 172]
abbrev dktJ4_isEmpty_0 : List UInt8 := dkwJ4_isEmpty_0 ++ []
theorem dksJ4_isEmpty_0 : cJ4_isEmpty.data.toList.drop 0 = dktJ4_isEmpty_0 := by decide +kernel
theorem dJ4_isEmpty_0 : decode cJ4_isEmpty 0 = .ok (.aload_n 0, 1) := dk_42 (dk_at dksJ4_isEmpty_0 0 rfl rfl)
theorem dJ4_isEmpty_1 : decode cJ4_isEmpty 1 = .ok (.getfield 48, 3) := dk_180 0 48 (dk_at dksJ4_isEmpty_0 1 rfl rfl)
theorem dJ4_isEmpty_4 : decode cJ4_isEmpty 4 = .ok (.ifCond .ne 7, 3) := dk_154 0 7 (dk_at dksJ4_isEmpty_0 4 rfl rfl)
theorem dJ4_isEmpty_7 : decode cJ4_isEmpty 7 = .ok (.iconst 1, 1) := dk_4 (dk_at dksJ4_isEmpty_0 7 rfl rfl)
theorem dJ4_isEmpty_8 : decode cJ4_isEmpty 8 = .ok (.goto 4, 3) := dk_167 0 4 (dk_at dksJ4_isEmpty_0 8 rfl rfl)
theorem dJ4_isEmpty_11 : decode cJ4_isEmpty 11 = .ok (.iconst 0, 1) := dk_3 (dk_at dksJ4_isEmpty_0 11 rfl rfl)
theorem dJ4_isEmpty_12 : decode cJ4_isEmpty 12 = .ok (.ireturn, 1) := dk_172 (dk_at dksJ4_isEmpty_0 12 rfl rfl)
abbrev cJ5_init : ByteArray := prog_52_method_1_code
def yJ5_init : MethodName := ⟨RJ5, "<init>", "()V"⟩
theorem dJ5_init_0 : decode cJ5_init 0 = .ok (.aload_n 0, 1) := by decide +kernel
theorem dJ5_init_1 : decode cJ5_init 1 = .ok (.invokespecial 1, 3) := by decide +kernel
theorem dJ5_init_4 : decode cJ5_init 4 = .ok (.return_, 1) := by decide +kernel
abbrev cJ5_iterator : ByteArray := prog_52_method_7_code
def yJ5_iterator : MethodName := ⟨RJ5, "iterator", "()Ljava/util/Iterator;"⟩
theorem dJ5_iterator_0 : decode cJ5_iterator 0 = .ok (.aload_n 0, 1) := by decide +kernel
theorem dJ5_iterator_1 : decode cJ5_iterator 1 = .ok (.invokevirtual 65, 3) := by decide +kernel
theorem dJ5_iterator_4 : decode cJ5_iterator 4 = .ok (.areturn, 1) := by decide +kernel
abbrev cJ6_init : ByteArray := prog_64_method_1_code
def yJ6_init : MethodName := ⟨RJ6, "<init>", "()V"⟩
def dkwJ6_init_0 : List UInt8 := [42, 183, 0, 1, 42, 3, 181, 0, 7, 177]
abbrev dktJ6_init_0 : List UInt8 := dkwJ6_init_0 ++ []
theorem dksJ6_init_0 : cJ6_init.data.toList.drop 0 = dktJ6_init_0 := by decide +kernel
theorem dJ6_init_0 : decode cJ6_init 0 = .ok (.aload_n 0, 1) := dk_42 (dk_at dksJ6_init_0 0 rfl rfl)
theorem dJ6_init_1 : decode cJ6_init 1 = .ok (.invokespecial 1, 3) := dk_183 0 1 (dk_at dksJ6_init_0 1 rfl rfl)
theorem dJ6_init_4 : decode cJ6_init 4 = .ok (.aload_n 0, 1) := dk_42 (dk_at dksJ6_init_0 4 rfl rfl)
theorem dJ6_init_5 : decode cJ6_init 5 = .ok (.iconst 0, 1) := dk_3 (dk_at dksJ6_init_0 5 rfl rfl)
theorem dJ6_init_6 : decode cJ6_init 6 = .ok (.putfield 7, 3) := dk_181 0 7 (dk_at dksJ6_init_0 6 rfl rfl)
theorem dJ6_init_9 : decode cJ6_init 9 = .ok (.return_, 1) := dk_177 (dk_at dksJ6_init_0 9 rfl rfl)
abbrev cJ6_clear : ByteArray := prog_64_method_21_code
def yJ6_clear : MethodName := ⟨RJ6, "clear", "()V"⟩
def dkwJ6_clear_2 : List UInt8 := [181, 0, 7, 42, 89, 180, 0, 33, 4, 96, 181, 0, 33, 177]
abbrev dktJ6_clear_2 : List UInt8 := dkwJ6_clear_2 ++ []
def dkwJ6_clear_1 : List UInt8 := [43, 1, 181, 0, 30, 44, 76, 167, 255, 230, 42, 42, 1, 90, 181, 0, 27, 181, 0, 18, 42, 3]
abbrev dktJ6_clear_1 : List UInt8 := dkwJ6_clear_1 ++ dktJ6_clear_2
def dkwJ6_clear_0 : List UInt8 := [42, 180, 0, 18, 76, 43, 198, 0, 28, 43, 180, 0, 36, 77, 43, 1, 181, 0, 39, 43, 1, 181, 0, 36]
abbrev dktJ6_clear_0 : List UInt8 := dkwJ6_clear_0 ++ dktJ6_clear_1
theorem dksJ6_clear_0 : cJ6_clear.data.toList.drop 0 = dktJ6_clear_0 := by decide +kernel
theorem dksJ6_clear_1 : cJ6_clear.data.toList.drop 24 = dktJ6_clear_1 := dk_seg dksJ6_clear_0 24 rfl rfl
theorem dksJ6_clear_2 : cJ6_clear.data.toList.drop 46 = dktJ6_clear_2 := dk_seg dksJ6_clear_1 22 rfl rfl
theorem dJ6_clear_0 : decode cJ6_clear 0 = .ok (.aload_n 0, 1) := dk_42 (dk_at dksJ6_clear_0 0 rfl rfl)
theorem dJ6_clear_1 : decode cJ6_clear 1 = .ok (.getfield 18, 3) := dk_180 0 18 (dk_at dksJ6_clear_0 1 rfl rfl)
theorem dJ6_clear_4 : decode cJ6_clear 4 = .ok (.astore_n 1, 1) := dk_76 (dk_at dksJ6_clear_0 4 rfl rfl)
theorem dJ6_clear_5 : decode cJ6_clear 5 = .ok (.aload_n 1, 1) := dk_43 (dk_at dksJ6_clear_0 5 rfl rfl)
theorem dJ6_clear_6 : decode cJ6_clear 6 = .ok (.ifnull 28, 3) := dk_198 0 28 (dk_at dksJ6_clear_0 6 rfl rfl)
theorem dJ6_clear_9 : decode cJ6_clear 9 = .ok (.aload_n 1, 1) := dk_43 (dk_at dksJ6_clear_0 9 rfl rfl)
theorem dJ6_clear_10 : decode cJ6_clear 10 = .ok (.getfield 36, 3) := dk_180 0 36 (dk_at dksJ6_clear_0 10 rfl rfl)
theorem dJ6_clear_13 : decode cJ6_clear 13 = .ok (.astore_n 2, 1) := dk_77 (dk_at dksJ6_clear_0 13 rfl rfl)
theorem dJ6_clear_14 : decode cJ6_clear 14 = .ok (.aload_n 1, 1) := dk_43 (dk_at dksJ6_clear_0 14 rfl rfl)
theorem dJ6_clear_15 : decode cJ6_clear 15 = .ok (.aconst_null, 1) := dk_1 (dk_at dksJ6_clear_0 15 rfl rfl)
theorem dJ6_clear_16 : decode cJ6_clear 16 = .ok (.putfield 39, 3) := dk_181 0 39 (dk_at dksJ6_clear_0 16 rfl rfl)
theorem dJ6_clear_19 : decode cJ6_clear 19 = .ok (.aload_n 1, 1) := dk_43 (dk_at dksJ6_clear_0 19 rfl rfl)
theorem dJ6_clear_20 : decode cJ6_clear 20 = .ok (.aconst_null, 1) := dk_1 (dk_at dksJ6_clear_0 20 rfl rfl)
theorem dJ6_clear_21 : decode cJ6_clear 21 = .ok (.putfield 36, 3) := dk_181 0 36 (dk_at dksJ6_clear_0 21 rfl rfl)
theorem dJ6_clear_24 : decode cJ6_clear 24 = .ok (.aload_n 1, 1) := dk_43 (dk_at dksJ6_clear_1 0 rfl rfl)
theorem dJ6_clear_25 : decode cJ6_clear 25 = .ok (.aconst_null, 1) := dk_1 (dk_at dksJ6_clear_1 1 rfl rfl)
theorem dJ6_clear_26 : decode cJ6_clear 26 = .ok (.putfield 30, 3) := dk_181 0 30 (dk_at dksJ6_clear_1 2 rfl rfl)
theorem dJ6_clear_29 : decode cJ6_clear 29 = .ok (.aload_n 2, 1) := dk_44 (dk_at dksJ6_clear_1 5 rfl rfl)
theorem dJ6_clear_30 : decode cJ6_clear 30 = .ok (.astore_n 1, 1) := dk_76 (dk_at dksJ6_clear_1 6 rfl rfl)
theorem dJ6_clear_31 : decode cJ6_clear 31 = .ok (.goto (-26), 3) := dk_167 255 230 (dk_at dksJ6_clear_1 7 rfl rfl)
theorem dJ6_clear_34 : decode cJ6_clear 34 = .ok (.aload_n 0, 1) := dk_42 (dk_at dksJ6_clear_1 10 rfl rfl)
theorem dJ6_clear_35 : decode cJ6_clear 35 = .ok (.aload_n 0, 1) := dk_42 (dk_at dksJ6_clear_1 11 rfl rfl)
theorem dJ6_clear_36 : decode cJ6_clear 36 = .ok (.aconst_null, 1) := dk_1 (dk_at dksJ6_clear_1 12 rfl rfl)
theorem dJ6_clear_37 : decode cJ6_clear 37 = .ok (.dup_x1, 1) := dk_90 (dk_at dksJ6_clear_1 13 rfl rfl)
theorem dJ6_clear_38 : decode cJ6_clear 38 = .ok (.putfield 27, 3) := dk_181 0 27 (dk_at dksJ6_clear_1 14 rfl rfl)
theorem dJ6_clear_41 : decode cJ6_clear 41 = .ok (.putfield 18, 3) := dk_181 0 18 (dk_at dksJ6_clear_1 17 rfl rfl)
theorem dJ6_clear_44 : decode cJ6_clear 44 = .ok (.aload_n 0, 1) := dk_42 (dk_at dksJ6_clear_1 20 rfl rfl)
theorem dJ6_clear_45 : decode cJ6_clear 45 = .ok (.iconst 0, 1) := dk_3 (dk_at dksJ6_clear_1 21 rfl rfl)
theorem dJ6_clear_46 : decode cJ6_clear 46 = .ok (.putfield 7, 3) := dk_181 0 7 (dk_at dksJ6_clear_2 0 rfl rfl)
theorem dJ6_clear_49 : decode cJ6_clear 49 = .ok (.aload_n 0, 1) := dk_42 (dk_at dksJ6_clear_2 3 rfl rfl)
theorem dJ6_clear_50 : decode cJ6_clear 50 = .ok (.dup, 1) := dk_89 (dk_at dksJ6_clear_2 4 rfl rfl)
theorem dJ6_clear_51 : decode cJ6_clear 51 = .ok (.getfield 33, 3) := dk_180 0 33 (dk_at dksJ6_clear_2 5 rfl rfl)
theorem dJ6_clear_54 : decode cJ6_clear 54 = .ok (.iconst 1, 1) := dk_4 (dk_at dksJ6_clear_2 8 rfl rfl)
theorem dJ6_clear_55 : decode cJ6_clear 55 = .ok (.iadd, 1) := dk_96 (dk_at dksJ6_clear_2 9 rfl rfl)
theorem dJ6_clear_56 : decode cJ6_clear 56 = .ok (.putfield 33, 3) := dk_181 0 33 (dk_at dksJ6_clear_2 10 rfl rfl)
theorem dJ6_clear_59 : decode cJ6_clear 59 = .ok (.return_, 1) := dk_177 (dk_at dksJ6_clear_2 13 rfl rfl)
abbrev cJ6_add : ByteArray := prog_64_method_17_code
def yJ6_add : MethodName := ⟨RJ6, "add", "(Ljava/lang/Object;)Z"⟩
def dkwJ6_add_0 : List UInt8 := [42, 43, 182, 0, 57, 4, 172]
abbrev dktJ6_add_0 : List UInt8 := dkwJ6_add_0 ++ []
theorem dksJ6_add_0 : cJ6_add.data.toList.drop 0 = dktJ6_add_0 := by decide +kernel
theorem dJ6_add_0 : decode cJ6_add 0 = .ok (.aload_n 0, 1) := dk_42 (dk_at dksJ6_add_0 0 rfl rfl)
theorem dJ6_add_1 : decode cJ6_add 1 = .ok (.aload_n 1, 1) := dk_43 (dk_at dksJ6_add_0 1 rfl rfl)
theorem dJ6_add_2 : decode cJ6_add 2 = .ok (.invokevirtual 57, 3) := dk_182 0 57 (dk_at dksJ6_add_0 2 rfl rfl)
theorem dJ6_add_5 : decode cJ6_add 5 = .ok (.iconst 1, 1) := dk_4 (dk_at dksJ6_add_0 5 rfl rfl)
theorem dJ6_add_6 : decode cJ6_add 6 = .ok (.ireturn, 1) := dk_172 (dk_at dksJ6_add_0 6 rfl rfl)
abbrev cJ6_linkLast : ByteArray := prog_64_method_4_code
def yJ6_linkLast : MethodName := ⟨RJ6, "linkLast", "(Ljava/lang/Object;)V"⟩
def dkwJ6_linkLast_2 : List UInt8 := [181, 0, 7, 42, 89, 180, 0, 33, 4, 96, 181, 0, 33, 177]
abbrev dktJ6_linkLast_2 : List UInt8 := dkwJ6_linkLast_2 ++ []
def dkwJ6_linkLast_1 : List UInt8 := [199, 0, 11, 42, 45, 181, 0, 18, 167, 0, 8, 44, 45, 181, 0, 36, 42, 89, 180, 0, 7, 4, 96]
abbrev dktJ6_linkLast_1 : List UInt8 := dkwJ6_linkLast_1 ++ dktJ6_linkLast_2
def dkwJ6_linkLast_0 : List UInt8 := [42, 180, 0, 27, 77, 187, 0, 22, 89, 44, 43, 1, 183, 0, 24, 78, 42, 45, 181, 0, 27, 44]
abbrev dktJ6_linkLast_0 : List UInt8 := dkwJ6_linkLast_0 ++ dktJ6_linkLast_1
theorem dksJ6_linkLast_0 : cJ6_linkLast.data.toList.drop 0 = dktJ6_linkLast_0 := by decide +kernel
theorem dksJ6_linkLast_1 : cJ6_linkLast.data.toList.drop 22 = dktJ6_linkLast_1 := dk_seg dksJ6_linkLast_0 22 rfl rfl
theorem dksJ6_linkLast_2 : cJ6_linkLast.data.toList.drop 45 = dktJ6_linkLast_2 := dk_seg dksJ6_linkLast_1 23 rfl rfl
theorem dJ6_linkLast_0 : decode cJ6_linkLast 0 = .ok (.aload_n 0, 1) := dk_42 (dk_at dksJ6_linkLast_0 0 rfl rfl)
theorem dJ6_linkLast_1 : decode cJ6_linkLast 1 = .ok (.getfield 27, 3) := dk_180 0 27 (dk_at dksJ6_linkLast_0 1 rfl rfl)
theorem dJ6_linkLast_4 : decode cJ6_linkLast 4 = .ok (.astore_n 2, 1) := dk_77 (dk_at dksJ6_linkLast_0 4 rfl rfl)
theorem dJ6_linkLast_5 : decode cJ6_linkLast 5 = .ok (.new 22, 3) := dk_187 0 22 (dk_at dksJ6_linkLast_0 5 rfl rfl)
theorem dJ6_linkLast_8 : decode cJ6_linkLast 8 = .ok (.dup, 1) := dk_89 (dk_at dksJ6_linkLast_0 8 rfl rfl)
theorem dJ6_linkLast_9 : decode cJ6_linkLast 9 = .ok (.aload_n 2, 1) := dk_44 (dk_at dksJ6_linkLast_0 9 rfl rfl)
theorem dJ6_linkLast_10 : decode cJ6_linkLast 10 = .ok (.aload_n 1, 1) := dk_43 (dk_at dksJ6_linkLast_0 10 rfl rfl)
theorem dJ6_linkLast_11 : decode cJ6_linkLast 11 = .ok (.aconst_null, 1) := dk_1 (dk_at dksJ6_linkLast_0 11 rfl rfl)
theorem dJ6_linkLast_12 : decode cJ6_linkLast 12 = .ok (.invokespecial 24, 3) := dk_183 0 24 (dk_at dksJ6_linkLast_0 12 rfl rfl)
theorem dJ6_linkLast_15 : decode cJ6_linkLast 15 = .ok (.astore_n 3, 1) := dk_78 (dk_at dksJ6_linkLast_0 15 rfl rfl)
theorem dJ6_linkLast_16 : decode cJ6_linkLast 16 = .ok (.aload_n 0, 1) := dk_42 (dk_at dksJ6_linkLast_0 16 rfl rfl)
theorem dJ6_linkLast_17 : decode cJ6_linkLast 17 = .ok (.aload_n 3, 1) := dk_45 (dk_at dksJ6_linkLast_0 17 rfl rfl)
theorem dJ6_linkLast_18 : decode cJ6_linkLast 18 = .ok (.putfield 27, 3) := dk_181 0 27 (dk_at dksJ6_linkLast_0 18 rfl rfl)
theorem dJ6_linkLast_21 : decode cJ6_linkLast 21 = .ok (.aload_n 2, 1) := dk_44 (dk_at dksJ6_linkLast_0 21 rfl rfl)
theorem dJ6_linkLast_22 : decode cJ6_linkLast 22 = .ok (.ifnonnull 11, 3) := dk_199 0 11 (dk_at dksJ6_linkLast_1 0 rfl rfl)
theorem dJ6_linkLast_25 : decode cJ6_linkLast 25 = .ok (.aload_n 0, 1) := dk_42 (dk_at dksJ6_linkLast_1 3 rfl rfl)
theorem dJ6_linkLast_26 : decode cJ6_linkLast 26 = .ok (.aload_n 3, 1) := dk_45 (dk_at dksJ6_linkLast_1 4 rfl rfl)
theorem dJ6_linkLast_27 : decode cJ6_linkLast 27 = .ok (.putfield 18, 3) := dk_181 0 18 (dk_at dksJ6_linkLast_1 5 rfl rfl)
theorem dJ6_linkLast_30 : decode cJ6_linkLast 30 = .ok (.goto 8, 3) := dk_167 0 8 (dk_at dksJ6_linkLast_1 8 rfl rfl)
theorem dJ6_linkLast_33 : decode cJ6_linkLast 33 = .ok (.aload_n 2, 1) := dk_44 (dk_at dksJ6_linkLast_1 11 rfl rfl)
theorem dJ6_linkLast_34 : decode cJ6_linkLast 34 = .ok (.aload_n 3, 1) := dk_45 (dk_at dksJ6_linkLast_1 12 rfl rfl)
theorem dJ6_linkLast_35 : decode cJ6_linkLast 35 = .ok (.putfield 36, 3) := dk_181 0 36 (dk_at dksJ6_linkLast_1 13 rfl rfl)
theorem dJ6_linkLast_38 : decode cJ6_linkLast 38 = .ok (.aload_n 0, 1) := dk_42 (dk_at dksJ6_linkLast_1 16 rfl rfl)
theorem dJ6_linkLast_39 : decode cJ6_linkLast 39 = .ok (.dup, 1) := dk_89 (dk_at dksJ6_linkLast_1 17 rfl rfl)
theorem dJ6_linkLast_40 : decode cJ6_linkLast 40 = .ok (.getfield 7, 3) := dk_180 0 7 (dk_at dksJ6_linkLast_1 18 rfl rfl)
theorem dJ6_linkLast_43 : decode cJ6_linkLast 43 = .ok (.iconst 1, 1) := dk_4 (dk_at dksJ6_linkLast_1 21 rfl rfl)
theorem dJ6_linkLast_44 : decode cJ6_linkLast 44 = .ok (.iadd, 1) := dk_96 (dk_at dksJ6_linkLast_1 22 rfl rfl)
theorem dJ6_linkLast_45 : decode cJ6_linkLast 45 = .ok (.putfield 7, 3) := dk_181 0 7 (dk_at dksJ6_linkLast_2 0 rfl rfl)
theorem dJ6_linkLast_48 : decode cJ6_linkLast 48 = .ok (.aload_n 0, 1) := dk_42 (dk_at dksJ6_linkLast_2 3 rfl rfl)
theorem dJ6_linkLast_49 : decode cJ6_linkLast 49 = .ok (.dup, 1) := dk_89 (dk_at dksJ6_linkLast_2 4 rfl rfl)
theorem dJ6_linkLast_50 : decode cJ6_linkLast 50 = .ok (.getfield 33, 3) := dk_180 0 33 (dk_at dksJ6_linkLast_2 5 rfl rfl)
theorem dJ6_linkLast_53 : decode cJ6_linkLast 53 = .ok (.iconst 1, 1) := dk_4 (dk_at dksJ6_linkLast_2 8 rfl rfl)
theorem dJ6_linkLast_54 : decode cJ6_linkLast 54 = .ok (.iadd, 1) := dk_96 (dk_at dksJ6_linkLast_2 9 rfl rfl)
theorem dJ6_linkLast_55 : decode cJ6_linkLast 55 = .ok (.putfield 33, 3) := dk_181 0 33 (dk_at dksJ6_linkLast_2 10 rfl rfl)
theorem dJ6_linkLast_58 : decode cJ6_linkLast 58 = .ok (.return_, 1) := dk_177 (dk_at dksJ6_linkLast_2 13 rfl rfl)
abbrev cJ6_get : ByteArray := prog_64_method_22_code
def yJ6_get : MethodName := ⟨RJ6, "get", "(I)Ljava/lang/Object;"⟩
def dkwJ6_get_0 : List UInt8 := [42, 27, 182, 0, 90, 42, 27, 182, 0, 86, 180, 0, 39, 176]
abbrev dktJ6_get_0 : List UInt8 := dkwJ6_get_0 ++ []
theorem dksJ6_get_0 : cJ6_get.data.toList.drop 0 = dktJ6_get_0 := by decide +kernel
theorem dJ6_get_0 : decode cJ6_get 0 = .ok (.aload_n 0, 1) := dk_42 (dk_at dksJ6_get_0 0 rfl rfl)
theorem dJ6_get_1 : decode cJ6_get 1 = .ok (.iload_n 1, 1) := dk_27 (dk_at dksJ6_get_0 1 rfl rfl)
theorem dJ6_get_2 : decode cJ6_get 2 = .ok (.invokevirtual 90, 3) := dk_182 0 90 (dk_at dksJ6_get_0 2 rfl rfl)
theorem dJ6_get_5 : decode cJ6_get 5 = .ok (.aload_n 0, 1) := dk_42 (dk_at dksJ6_get_0 5 rfl rfl)
theorem dJ6_get_6 : decode cJ6_get 6 = .ok (.iload_n 1, 1) := dk_27 (dk_at dksJ6_get_0 6 rfl rfl)
theorem dJ6_get_7 : decode cJ6_get 7 = .ok (.invokevirtual 86, 3) := dk_182 0 86 (dk_at dksJ6_get_0 7 rfl rfl)
theorem dJ6_get_10 : decode cJ6_get 10 = .ok (.getfield 39, 3) := dk_180 0 39 (dk_at dksJ6_get_0 10 rfl rfl)
theorem dJ6_get_13 : decode cJ6_get 13 = .ok (.areturn, 1) := dk_176 (dk_at dksJ6_get_0 13 rfl rfl)
abbrev cJ6_checkElementIndex : ByteArray := prog_64_method_29_code
def yJ6_checkElementIndex : MethodName := ⟨RJ6, "checkElementIndex", "(I)V"⟩
def dkwJ6_checkElementIndex_0 : List UInt8 := [42, 27, 182, 0, 115, 154, 0, 16, 187, 0, 119, 89, 42, 27, 182, 0, 121, 183, 0, 125, 191, 177]
abbrev dktJ6_checkElementIndex_0 : List UInt8 := dkwJ6_checkElementIndex_0 ++ []
theorem dksJ6_checkElementIndex_0 : cJ6_checkElementIndex.data.toList.drop 0 = dktJ6_checkElementIndex_0 := by decide +kernel
theorem dJ6_checkElementIndex_0 : decode cJ6_checkElementIndex 0 = .ok (.aload_n 0, 1) := dk_42 (dk_at dksJ6_checkElementIndex_0 0 rfl rfl)
theorem dJ6_checkElementIndex_1 : decode cJ6_checkElementIndex 1 = .ok (.iload_n 1, 1) := dk_27 (dk_at dksJ6_checkElementIndex_0 1 rfl rfl)
theorem dJ6_checkElementIndex_2 : decode cJ6_checkElementIndex 2 = .ok (.invokevirtual 115, 3) := dk_182 0 115 (dk_at dksJ6_checkElementIndex_0 2 rfl rfl)
theorem dJ6_checkElementIndex_5 : decode cJ6_checkElementIndex 5 = .ok (.ifCond .ne 16, 3) := dk_154 0 16 (dk_at dksJ6_checkElementIndex_0 5 rfl rfl)
theorem dJ6_checkElementIndex_8 : decode cJ6_checkElementIndex 8 = .ok (.new 119, 3) := dk_187 0 119 (dk_at dksJ6_checkElementIndex_0 8 rfl rfl)
theorem dJ6_checkElementIndex_11 : decode cJ6_checkElementIndex 11 = .ok (.dup, 1) := dk_89 (dk_at dksJ6_checkElementIndex_0 11 rfl rfl)
theorem dJ6_checkElementIndex_12 : decode cJ6_checkElementIndex 12 = .ok (.aload_n 0, 1) := dk_42 (dk_at dksJ6_checkElementIndex_0 12 rfl rfl)
theorem dJ6_checkElementIndex_13 : decode cJ6_checkElementIndex 13 = .ok (.iload_n 1, 1) := dk_27 (dk_at dksJ6_checkElementIndex_0 13 rfl rfl)
theorem dJ6_checkElementIndex_14 : decode cJ6_checkElementIndex 14 = .ok (.invokevirtual 121, 3) := dk_182 0 121 (dk_at dksJ6_checkElementIndex_0 14 rfl rfl)
theorem dJ6_checkElementIndex_17 : decode cJ6_checkElementIndex 17 = .ok (.invokespecial 125, 3) := dk_183 0 125 (dk_at dksJ6_checkElementIndex_0 17 rfl rfl)
theorem dJ6_checkElementIndex_20 : decode cJ6_checkElementIndex 20 = .ok (.athrow, 1) := dk_191 (dk_at dksJ6_checkElementIndex_0 20 rfl rfl)
theorem dJ6_checkElementIndex_21 : decode cJ6_checkElementIndex 21 = .ok (.return_, 1) := dk_177 (dk_at dksJ6_checkElementIndex_0 21 rfl rfl)
abbrev cJ6_isElementIndex : ByteArray := prog_64_method_26_code
def yJ6_isElementIndex : MethodName := ⟨RJ6, "isElementIndex", "(I)Z"⟩
def dkwJ6_isElementIndex_0 : List UInt8 := [27, 155, 0, 15, 27, 42, 180, 0, 7, 162, 0, 7, 4, 167, 0, 4, 3, 172]
abbrev dktJ6_isElementIndex_0 : List UInt8 := dkwJ6_isElementIndex_0 ++ []
theorem dksJ6_isElementIndex_0 : cJ6_isElementIndex.data.toList.drop 0 = dktJ6_isElementIndex_0 := by decide +kernel
theorem dJ6_isElementIndex_0 : decode cJ6_isElementIndex 0 = .ok (.iload_n 1, 1) := dk_27 (dk_at dksJ6_isElementIndex_0 0 rfl rfl)
theorem dJ6_isElementIndex_1 : decode cJ6_isElementIndex 1 = .ok (.ifCond .lt 15, 3) := dk_155 0 15 (dk_at dksJ6_isElementIndex_0 1 rfl rfl)
theorem dJ6_isElementIndex_4 : decode cJ6_isElementIndex 4 = .ok (.iload_n 1, 1) := dk_27 (dk_at dksJ6_isElementIndex_0 4 rfl rfl)
theorem dJ6_isElementIndex_5 : decode cJ6_isElementIndex 5 = .ok (.aload_n 0, 1) := dk_42 (dk_at dksJ6_isElementIndex_0 5 rfl rfl)
theorem dJ6_isElementIndex_6 : decode cJ6_isElementIndex 6 = .ok (.getfield 7, 3) := dk_180 0 7 (dk_at dksJ6_isElementIndex_0 6 rfl rfl)
theorem dJ6_isElementIndex_9 : decode cJ6_isElementIndex 9 = .ok (.if_icmp .ge 7, 3) := dk_162 0 7 (dk_at dksJ6_isElementIndex_0 9 rfl rfl)
theorem dJ6_isElementIndex_12 : decode cJ6_isElementIndex 12 = .ok (.iconst 1, 1) := dk_4 (dk_at dksJ6_isElementIndex_0 12 rfl rfl)
theorem dJ6_isElementIndex_13 : decode cJ6_isElementIndex 13 = .ok (.goto 4, 3) := dk_167 0 4 (dk_at dksJ6_isElementIndex_0 13 rfl rfl)
theorem dJ6_isElementIndex_16 : decode cJ6_isElementIndex 16 = .ok (.iconst 0, 1) := dk_3 (dk_at dksJ6_isElementIndex_0 16 rfl rfl)
theorem dJ6_isElementIndex_17 : decode cJ6_isElementIndex 17 = .ok (.ireturn, 1) := dk_172 (dk_at dksJ6_isElementIndex_0 17 rfl rfl)
abbrev cJ6_outOfBoundsMsg : ByteArray := prog_64_method_28_code
def yJ6_outOfBoundsMsg : MethodName := ⟨RJ6, "outOfBoundsMsg", "(I)Ljava/lang/String;"⟩
def dkwJ6_outOfBoundsMsg_1 : List UInt8 := [180, 0, 7, 182, 0, 106, 182, 0, 111, 176]
abbrev dktJ6_outOfBoundsMsg_1 : List UInt8 := dkwJ6_outOfBoundsMsg_1 ++ []
def dkwJ6_outOfBoundsMsg_0 : List UInt8 := [187, 0, 97, 89, 183, 0, 99, 18, 100, 182, 0, 102, 27, 182, 0, 106, 18, 109, 182, 0, 102, 42]
abbrev dktJ6_outOfBoundsMsg_0 : List UInt8 := dkwJ6_outOfBoundsMsg_0 ++ dktJ6_outOfBoundsMsg_1
theorem dksJ6_outOfBoundsMsg_0 : cJ6_outOfBoundsMsg.data.toList.drop 0 = dktJ6_outOfBoundsMsg_0 := by decide +kernel
theorem dksJ6_outOfBoundsMsg_1 : cJ6_outOfBoundsMsg.data.toList.drop 22 = dktJ6_outOfBoundsMsg_1 := dk_seg dksJ6_outOfBoundsMsg_0 22 rfl rfl
theorem dJ6_outOfBoundsMsg_0 : decode cJ6_outOfBoundsMsg 0 = .ok (.new 97, 3) := dk_187 0 97 (dk_at dksJ6_outOfBoundsMsg_0 0 rfl rfl)
theorem dJ6_outOfBoundsMsg_3 : decode cJ6_outOfBoundsMsg 3 = .ok (.dup, 1) := dk_89 (dk_at dksJ6_outOfBoundsMsg_0 3 rfl rfl)
theorem dJ6_outOfBoundsMsg_4 : decode cJ6_outOfBoundsMsg 4 = .ok (.invokespecial 99, 3) := dk_183 0 99 (dk_at dksJ6_outOfBoundsMsg_0 4 rfl rfl)
theorem dJ6_outOfBoundsMsg_7 : decode cJ6_outOfBoundsMsg 7 = .ok (.ldc 100, 2) := dk_18 100 (dk_at dksJ6_outOfBoundsMsg_0 7 rfl rfl)
theorem dJ6_outOfBoundsMsg_9 : decode cJ6_outOfBoundsMsg 9 = .ok (.invokevirtual 102, 3) := dk_182 0 102 (dk_at dksJ6_outOfBoundsMsg_0 9 rfl rfl)
theorem dJ6_outOfBoundsMsg_12 : decode cJ6_outOfBoundsMsg 12 = .ok (.iload_n 1, 1) := dk_27 (dk_at dksJ6_outOfBoundsMsg_0 12 rfl rfl)
theorem dJ6_outOfBoundsMsg_13 : decode cJ6_outOfBoundsMsg 13 = .ok (.invokevirtual 106, 3) := dk_182 0 106 (dk_at dksJ6_outOfBoundsMsg_0 13 rfl rfl)
theorem dJ6_outOfBoundsMsg_16 : decode cJ6_outOfBoundsMsg 16 = .ok (.ldc 109, 2) := dk_18 109 (dk_at dksJ6_outOfBoundsMsg_0 16 rfl rfl)
theorem dJ6_outOfBoundsMsg_18 : decode cJ6_outOfBoundsMsg 18 = .ok (.invokevirtual 102, 3) := dk_182 0 102 (dk_at dksJ6_outOfBoundsMsg_0 18 rfl rfl)
theorem dJ6_outOfBoundsMsg_21 : decode cJ6_outOfBoundsMsg 21 = .ok (.aload_n 0, 1) := dk_42 (dk_at dksJ6_outOfBoundsMsg_0 21 rfl rfl)
theorem dJ6_outOfBoundsMsg_22 : decode cJ6_outOfBoundsMsg 22 = .ok (.getfield 7, 3) := dk_180 0 7 (dk_at dksJ6_outOfBoundsMsg_1 0 rfl rfl)
theorem dJ6_outOfBoundsMsg_25 : decode cJ6_outOfBoundsMsg 25 = .ok (.invokevirtual 106, 3) := dk_182 0 106 (dk_at dksJ6_outOfBoundsMsg_1 3 rfl rfl)
theorem dJ6_outOfBoundsMsg_28 : decode cJ6_outOfBoundsMsg 28 = .ok (.invokevirtual 111, 3) := dk_182 0 111 (dk_at dksJ6_outOfBoundsMsg_1 6 rfl rfl)
theorem dJ6_outOfBoundsMsg_31 : decode cJ6_outOfBoundsMsg 31 = .ok (.areturn, 1) := dk_176 (dk_at dksJ6_outOfBoundsMsg_1 9 rfl rfl)
abbrev cJ6_node : ByteArray := prog_64_method_31_code
def yJ6_node : MethodName := ⟨RJ6, "node", "(I)Ljava/util/LinkedList$Node;"⟩
def dkwJ6_node_2 : List UInt8 := [29, 27, 164, 0, 14, 44, 180, 0, 30, 77, 132, 3, 255, 167, 255, 243, 44, 176]
abbrev dktJ6_node_2 : List UInt8 := dkwJ6_node_2 ++ []
def dkwJ6_node_1 : List UInt8 := [180, 0, 36, 77, 132, 3, 1, 167, 255, 243, 44, 176, 42, 180, 0, 27, 77, 42, 180, 0, 7, 4, 100, 62]
abbrev dktJ6_node_1 : List UInt8 := dkwJ6_node_1 ++ dktJ6_node_2
def dkwJ6_node_0 : List UInt8 := [27, 42, 180, 0, 7, 4, 122, 162, 0, 28, 42, 180, 0, 18, 77, 3, 62, 29, 27, 162, 0, 14, 44]
abbrev dktJ6_node_0 : List UInt8 := dkwJ6_node_0 ++ dktJ6_node_1
theorem dksJ6_node_0 : cJ6_node.data.toList.drop 0 = dktJ6_node_0 := by decide +kernel
theorem dksJ6_node_1 : cJ6_node.data.toList.drop 23 = dktJ6_node_1 := dk_seg dksJ6_node_0 23 rfl rfl
theorem dksJ6_node_2 : cJ6_node.data.toList.drop 47 = dktJ6_node_2 := dk_seg dksJ6_node_1 24 rfl rfl
theorem dJ6_node_0 : decode cJ6_node 0 = .ok (.iload_n 1, 1) := dk_27 (dk_at dksJ6_node_0 0 rfl rfl)
theorem dJ6_node_1 : decode cJ6_node 1 = .ok (.aload_n 0, 1) := dk_42 (dk_at dksJ6_node_0 1 rfl rfl)
theorem dJ6_node_2 : decode cJ6_node 2 = .ok (.getfield 7, 3) := dk_180 0 7 (dk_at dksJ6_node_0 2 rfl rfl)
theorem dJ6_node_5 : decode cJ6_node 5 = .ok (.iconst 1, 1) := dk_4 (dk_at dksJ6_node_0 5 rfl rfl)
theorem dJ6_node_6 : decode cJ6_node 6 = .ok (.ishr, 1) := dk_122 (dk_at dksJ6_node_0 6 rfl rfl)
theorem dJ6_node_7 : decode cJ6_node 7 = .ok (.if_icmp .ge 28, 3) := dk_162 0 28 (dk_at dksJ6_node_0 7 rfl rfl)
theorem dJ6_node_10 : decode cJ6_node 10 = .ok (.aload_n 0, 1) := dk_42 (dk_at dksJ6_node_0 10 rfl rfl)
theorem dJ6_node_11 : decode cJ6_node 11 = .ok (.getfield 18, 3) := dk_180 0 18 (dk_at dksJ6_node_0 11 rfl rfl)
theorem dJ6_node_14 : decode cJ6_node 14 = .ok (.astore_n 2, 1) := dk_77 (dk_at dksJ6_node_0 14 rfl rfl)
theorem dJ6_node_15 : decode cJ6_node 15 = .ok (.iconst 0, 1) := dk_3 (dk_at dksJ6_node_0 15 rfl rfl)
theorem dJ6_node_16 : decode cJ6_node 16 = .ok (.istore_n 3, 1) := dk_62 (dk_at dksJ6_node_0 16 rfl rfl)
theorem dJ6_node_17 : decode cJ6_node 17 = .ok (.iload_n 3, 1) := dk_29 (dk_at dksJ6_node_0 17 rfl rfl)
theorem dJ6_node_18 : decode cJ6_node 18 = .ok (.iload_n 1, 1) := dk_27 (dk_at dksJ6_node_0 18 rfl rfl)
theorem dJ6_node_19 : decode cJ6_node 19 = .ok (.if_icmp .ge 14, 3) := dk_162 0 14 (dk_at dksJ6_node_0 19 rfl rfl)
theorem dJ6_node_22 : decode cJ6_node 22 = .ok (.aload_n 2, 1) := dk_44 (dk_at dksJ6_node_0 22 rfl rfl)
theorem dJ6_node_23 : decode cJ6_node 23 = .ok (.getfield 36, 3) := dk_180 0 36 (dk_at dksJ6_node_1 0 rfl rfl)
theorem dJ6_node_26 : decode cJ6_node 26 = .ok (.astore_n 2, 1) := dk_77 (dk_at dksJ6_node_1 3 rfl rfl)
theorem dJ6_node_27 : decode cJ6_node 27 = .ok (.iinc 3 1, 3) := dk_132 3 1 (dk_at dksJ6_node_1 4 rfl rfl)
theorem dJ6_node_30 : decode cJ6_node 30 = .ok (.goto (-13), 3) := dk_167 255 243 (dk_at dksJ6_node_1 7 rfl rfl)
theorem dJ6_node_33 : decode cJ6_node 33 = .ok (.aload_n 2, 1) := dk_44 (dk_at dksJ6_node_1 10 rfl rfl)
theorem dJ6_node_34 : decode cJ6_node 34 = .ok (.areturn, 1) := dk_176 (dk_at dksJ6_node_1 11 rfl rfl)
theorem dJ6_node_35 : decode cJ6_node 35 = .ok (.aload_n 0, 1) := dk_42 (dk_at dksJ6_node_1 12 rfl rfl)
theorem dJ6_node_36 : decode cJ6_node 36 = .ok (.getfield 27, 3) := dk_180 0 27 (dk_at dksJ6_node_1 13 rfl rfl)
theorem dJ6_node_39 : decode cJ6_node 39 = .ok (.astore_n 2, 1) := dk_77 (dk_at dksJ6_node_1 16 rfl rfl)
theorem dJ6_node_40 : decode cJ6_node 40 = .ok (.aload_n 0, 1) := dk_42 (dk_at dksJ6_node_1 17 rfl rfl)
theorem dJ6_node_41 : decode cJ6_node 41 = .ok (.getfield 7, 3) := dk_180 0 7 (dk_at dksJ6_node_1 18 rfl rfl)
theorem dJ6_node_44 : decode cJ6_node 44 = .ok (.iconst 1, 1) := dk_4 (dk_at dksJ6_node_1 21 rfl rfl)
theorem dJ6_node_45 : decode cJ6_node 45 = .ok (.isub, 1) := dk_100 (dk_at dksJ6_node_1 22 rfl rfl)
theorem dJ6_node_46 : decode cJ6_node 46 = .ok (.istore_n 3, 1) := dk_62 (dk_at dksJ6_node_1 23 rfl rfl)
theorem dJ6_node_47 : decode cJ6_node 47 = .ok (.iload_n 3, 1) := dk_29 (dk_at dksJ6_node_2 0 rfl rfl)
theorem dJ6_node_48 : decode cJ6_node 48 = .ok (.iload_n 1, 1) := dk_27 (dk_at dksJ6_node_2 1 rfl rfl)
theorem dJ6_node_49 : decode cJ6_node 49 = .ok (.if_icmp .le 14, 3) := dk_164 0 14 (dk_at dksJ6_node_2 2 rfl rfl)
theorem dJ6_node_52 : decode cJ6_node 52 = .ok (.aload_n 2, 1) := dk_44 (dk_at dksJ6_node_2 5 rfl rfl)
theorem dJ6_node_53 : decode cJ6_node 53 = .ok (.getfield 30, 3) := dk_180 0 30 (dk_at dksJ6_node_2 6 rfl rfl)
theorem dJ6_node_56 : decode cJ6_node 56 = .ok (.astore_n 2, 1) := dk_77 (dk_at dksJ6_node_2 9 rfl rfl)
theorem dJ6_node_57 : decode cJ6_node 57 = .ok (.iinc 3 (-1), 3) := dk_132 3 255 (dk_at dksJ6_node_2 10 rfl rfl)
theorem dJ6_node_60 : decode cJ6_node 60 = .ok (.goto (-13), 3) := dk_167 255 243 (dk_at dksJ6_node_2 13 rfl rfl)
theorem dJ6_node_63 : decode cJ6_node 63 = .ok (.aload_n 2, 1) := dk_44 (dk_at dksJ6_node_2 16 rfl rfl)
theorem dJ6_node_64 : decode cJ6_node 64 = .ok (.areturn, 1) := dk_176 (dk_at dksJ6_node_2 17 rfl rfl)
abbrev cJ6_size : ByteArray := prog_64_method_16_code
def yJ6_size : MethodName := ⟨RJ6, "size", "()I"⟩
theorem dJ6_size_0 : decode cJ6_size 0 = .ok (.aload_n 0, 1) := by decide +kernel
theorem dJ6_size_1 : decode cJ6_size 1 = .ok (.getfield 7, 3) := by decide +kernel
theorem dJ6_size_4 : decode cJ6_size 4 = .ok (.ireturn, 1) := by decide +kernel
abbrev cJ6_listIterator : ByteArray := prog_64_method_49_code
def yJ6_listIterator : MethodName := ⟨RJ6, "listIterator", "(I)Ljava/util/ListIterator;"⟩
def dkwJ6_listIterator_0 : List UInt8 := [42, 27, 182, 0, 76, 187, 0, 150, 89, 42, 27, 183, 0, 152, 176]
abbrev dktJ6_listIterator_0 : List UInt8 := dkwJ6_listIterator_0 ++ []
theorem dksJ6_listIterator_0 : cJ6_listIterator.data.toList.drop 0 = dktJ6_listIterator_0 := by decide +kernel
theorem dJ6_listIterator_0 : decode cJ6_listIterator 0 = .ok (.aload_n 0, 1) := dk_42 (dk_at dksJ6_listIterator_0 0 rfl rfl)
theorem dJ6_listIterator_1 : decode cJ6_listIterator 1 = .ok (.iload_n 1, 1) := dk_27 (dk_at dksJ6_listIterator_0 1 rfl rfl)
theorem dJ6_listIterator_2 : decode cJ6_listIterator 2 = .ok (.invokevirtual 76, 3) := dk_182 0 76 (dk_at dksJ6_listIterator_0 2 rfl rfl)
theorem dJ6_listIterator_5 : decode cJ6_listIterator 5 = .ok (.new 150, 3) := dk_187 0 150 (dk_at dksJ6_listIterator_0 5 rfl rfl)
theorem dJ6_listIterator_8 : decode cJ6_listIterator 8 = .ok (.dup, 1) := dk_89 (dk_at dksJ6_listIterator_0 8 rfl rfl)
theorem dJ6_listIterator_9 : decode cJ6_listIterator 9 = .ok (.aload_n 0, 1) := dk_42 (dk_at dksJ6_listIterator_0 9 rfl rfl)
theorem dJ6_listIterator_10 : decode cJ6_listIterator 10 = .ok (.iload_n 1, 1) := dk_27 (dk_at dksJ6_listIterator_0 10 rfl rfl)
theorem dJ6_listIterator_11 : decode cJ6_listIterator 11 = .ok (.invokespecial 152, 3) := dk_183 0 152 (dk_at dksJ6_listIterator_0 11 rfl rfl)
theorem dJ6_listIterator_14 : decode cJ6_listIterator 14 = .ok (.areturn, 1) := dk_176 (dk_at dksJ6_listIterator_0 14 rfl rfl)
abbrev cJ6_checkPositionIndex : ByteArray := prog_64_method_30_code
def yJ6_checkPositionIndex : MethodName := ⟨RJ6, "checkPositionIndex", "(I)V"⟩
def dkwJ6_checkPositionIndex_0 : List UInt8 := [42, 27, 182, 0, 128, 154, 0, 16, 187, 0, 119, 89, 42, 27, 182, 0, 121, 183, 0, 125, 191, 177]
abbrev dktJ6_checkPositionIndex_0 : List UInt8 := dkwJ6_checkPositionIndex_0 ++ []
theorem dksJ6_checkPositionIndex_0 : cJ6_checkPositionIndex.data.toList.drop 0 = dktJ6_checkPositionIndex_0 := by decide +kernel
theorem dJ6_checkPositionIndex_0 : decode cJ6_checkPositionIndex 0 = .ok (.aload_n 0, 1) := dk_42 (dk_at dksJ6_checkPositionIndex_0 0 rfl rfl)
theorem dJ6_checkPositionIndex_1 : decode cJ6_checkPositionIndex 1 = .ok (.iload_n 1, 1) := dk_27 (dk_at dksJ6_checkPositionIndex_0 1 rfl rfl)
theorem dJ6_checkPositionIndex_2 : decode cJ6_checkPositionIndex 2 = .ok (.invokevirtual 128, 3) := dk_182 0 128 (dk_at dksJ6_checkPositionIndex_0 2 rfl rfl)
theorem dJ6_checkPositionIndex_5 : decode cJ6_checkPositionIndex 5 = .ok (.ifCond .ne 16, 3) := dk_154 0 16 (dk_at dksJ6_checkPositionIndex_0 5 rfl rfl)
theorem dJ6_checkPositionIndex_8 : decode cJ6_checkPositionIndex 8 = .ok (.new 119, 3) := dk_187 0 119 (dk_at dksJ6_checkPositionIndex_0 8 rfl rfl)
theorem dJ6_checkPositionIndex_11 : decode cJ6_checkPositionIndex 11 = .ok (.dup, 1) := dk_89 (dk_at dksJ6_checkPositionIndex_0 11 rfl rfl)
theorem dJ6_checkPositionIndex_12 : decode cJ6_checkPositionIndex 12 = .ok (.aload_n 0, 1) := dk_42 (dk_at dksJ6_checkPositionIndex_0 12 rfl rfl)
theorem dJ6_checkPositionIndex_13 : decode cJ6_checkPositionIndex 13 = .ok (.iload_n 1, 1) := dk_27 (dk_at dksJ6_checkPositionIndex_0 13 rfl rfl)
theorem dJ6_checkPositionIndex_14 : decode cJ6_checkPositionIndex 14 = .ok (.invokevirtual 121, 3) := dk_182 0 121 (dk_at dksJ6_checkPositionIndex_0 14 rfl rfl)
theorem dJ6_checkPositionIndex_17 : decode cJ6_checkPositionIndex 17 = .ok (.invokespecial 125, 3) := dk_183 0 125 (dk_at dksJ6_checkPositionIndex_0 17 rfl rfl)
theorem dJ6_checkPositionIndex_20 : decode cJ6_checkPositionIndex 20 = .ok (.athrow, 1) := dk_191 (dk_at dksJ6_checkPositionIndex_0 20 rfl rfl)
theorem dJ6_checkPositionIndex_21 : decode cJ6_checkPositionIndex 21 = .ok (.return_, 1) := dk_177 (dk_at dksJ6_checkPositionIndex_0 21 rfl rfl)
abbrev cJ6_isPositionIndex : ByteArray := prog_64_method_27_code
def yJ6_isPositionIndex : MethodName := ⟨RJ6, "isPositionIndex", "(I)Z"⟩
def dkwJ6_isPositionIndex_0 : List UInt8 := [27, 155, 0, 15, 27, 42, 180, 0, 7, 163, 0, 7, 4, 167, 0, 4, 3, 172]
abbrev dktJ6_isPositionIndex_0 : List UInt8 := dkwJ6_isPositionIndex_0 ++ []
theorem dksJ6_isPositionIndex_0 : cJ6_isPositionIndex.data.toList.drop 0 = dktJ6_isPositionIndex_0 := by decide +kernel
theorem dJ6_isPositionIndex_0 : decode cJ6_isPositionIndex 0 = .ok (.iload_n 1, 1) := dk_27 (dk_at dksJ6_isPositionIndex_0 0 rfl rfl)
theorem dJ6_isPositionIndex_1 : decode cJ6_isPositionIndex 1 = .ok (.ifCond .lt 15, 3) := dk_155 0 15 (dk_at dksJ6_isPositionIndex_0 1 rfl rfl)
theorem dJ6_isPositionIndex_4 : decode cJ6_isPositionIndex 4 = .ok (.iload_n 1, 1) := dk_27 (dk_at dksJ6_isPositionIndex_0 4 rfl rfl)
theorem dJ6_isPositionIndex_5 : decode cJ6_isPositionIndex 5 = .ok (.aload_n 0, 1) := dk_42 (dk_at dksJ6_isPositionIndex_0 5 rfl rfl)
theorem dJ6_isPositionIndex_6 : decode cJ6_isPositionIndex 6 = .ok (.getfield 7, 3) := dk_180 0 7 (dk_at dksJ6_isPositionIndex_0 6 rfl rfl)
theorem dJ6_isPositionIndex_9 : decode cJ6_isPositionIndex 9 = .ok (.if_icmp .gt 7, 3) := dk_163 0 7 (dk_at dksJ6_isPositionIndex_0 9 rfl rfl)
theorem dJ6_isPositionIndex_12 : decode cJ6_isPositionIndex 12 = .ok (.iconst 1, 1) := dk_4 (dk_at dksJ6_isPositionIndex_0 12 rfl rfl)
theorem dJ6_isPositionIndex_13 : decode cJ6_isPositionIndex 13 = .ok (.goto 4, 3) := dk_167 0 4 (dk_at dksJ6_isPositionIndex_0 13 rfl rfl)
theorem dJ6_isPositionIndex_16 : decode cJ6_isPositionIndex 16 = .ok (.iconst 0, 1) := dk_3 (dk_at dksJ6_isPositionIndex_0 16 rfl rfl)
theorem dJ6_isPositionIndex_17 : decode cJ6_isPositionIndex 17 = .ok (.ireturn, 1) := dk_172 (dk_at dksJ6_isPositionIndex_0 17 rfl rfl)
abbrev cJ6_addAll : ByteArray := prog_64_method_19_code
def yJ6_addAll : MethodName := ⟨RJ6, "addAll", "(Ljava/util/Collection;)Z"⟩
def dkwJ6_addAll_0 : List UInt8 := [42, 42, 180, 0, 7, 43, 182, 0, 73, 172]
abbrev dktJ6_addAll_0 : List UInt8 := dkwJ6_addAll_0 ++ []
theorem dksJ6_addAll_0 : cJ6_addAll.data.toList.drop 0 = dktJ6_addAll_0 := by decide +kernel
theorem dJ6_addAll_0 : decode cJ6_addAll 0 = .ok (.aload_n 0, 1) := dk_42 (dk_at dksJ6_addAll_0 0 rfl rfl)
theorem dJ6_addAll_1 : decode cJ6_addAll 1 = .ok (.aload_n 0, 1) := dk_42 (dk_at dksJ6_addAll_0 1 rfl rfl)
theorem dJ6_addAll_2 : decode cJ6_addAll 2 = .ok (.getfield 7, 3) := dk_180 0 7 (dk_at dksJ6_addAll_0 2 rfl rfl)
theorem dJ6_addAll_5 : decode cJ6_addAll 5 = .ok (.aload_n 1, 1) := dk_43 (dk_at dksJ6_addAll_0 5 rfl rfl)
theorem dJ6_addAll_6 : decode cJ6_addAll 6 = .ok (.invokevirtual 73, 3) := dk_182 0 73 (dk_at dksJ6_addAll_0 6 rfl rfl)
theorem dJ6_addAll_9 : decode cJ6_addAll 9 = .ok (.ireturn, 1) := dk_172 (dk_at dksJ6_addAll_0 9 rfl rfl)
abbrev cJ6_addAll_2 : ByteArray := prog_64_method_20_code
def yJ6_addAll_2 : MethodName := ⟨RJ6, "addAll", "(ILjava/util/Collection;)Z"⟩
def dkwJ6_addAll_2_7 : List UInt8 := [96, 181, 0, 7, 42, 89, 180, 0, 33, 4, 96, 181, 0, 33, 4, 172]
abbrev dktJ6_addAll_2_7 : List UInt8 := dkwJ6_addAll_2_7 ++ []
def dkwJ6_addAll_2_6 : List UInt8 := [167, 0, 17, 25, 5, 25, 6, 181, 0, 36, 25, 6, 25, 5, 181, 0, 30, 42, 89, 180, 0, 7, 21, 4]
abbrev dktJ6_addAll_2_6 : List UInt8 := dkwJ6_addAll_2_6 ++ dktJ6_addAll_2_7
def dkwJ6_addAll_2_5 : List UInt8 := [181, 0, 36, 25, 12, 58, 5, 132, 9, 1, 167, 255, 196, 25, 6, 199, 0, 12, 42, 25, 5, 181, 0, 27]
abbrev dktJ6_addAll_2_5 : List UInt8 := dkwJ6_addAll_2_5 ++ dktJ6_addAll_2_6
def dkwJ6_addAll_2_4 : List UInt8 := [183, 0, 24, 58, 12, 25, 5, 199, 0, 12, 42, 25, 12, 181, 0, 18, 167, 0, 10, 25, 5, 25, 12]
abbrev dktJ6_addAll_2_4 : List UInt8 := dkwJ6_addAll_2_4 ++ dktJ6_addAll_2_5
def dkwJ6_addAll_2_3 : List UInt8 := [162, 0, 59, 25, 7, 21, 9, 50, 58, 10, 25, 10, 58, 11, 187, 0, 22, 89, 25, 5, 25, 11, 1]
abbrev dktJ6_addAll_2_3 : List UInt8 := dkwJ6_addAll_2_3 ++ dktJ6_addAll_2_4
def dkwJ6_addAll_2_2 : List UInt8 := [58, 6, 25, 6, 180, 0, 30, 58, 5, 45, 58, 7, 25, 7, 190, 54, 8, 3, 54, 9, 21, 9, 21, 8]
abbrev dktJ6_addAll_2_2 : List UInt8 := dkwJ6_addAll_2_2 ++ dktJ6_addAll_2_3
def dkwJ6_addAll_2_1 : List UInt8 := [42, 180, 0, 7, 160, 0, 15, 1, 58, 6, 42, 180, 0, 27, 58, 5, 167, 0, 17, 42, 27, 182, 0, 86]
abbrev dktJ6_addAll_2_1 : List UInt8 := dkwJ6_addAll_2_1 ++ dktJ6_addAll_2_2
def dkwJ6_addAll_2_0 : List UInt8 := [42, 27, 182, 0, 76, 44, 185, 0, 80, 1, 0, 78, 45, 190, 54, 4, 21, 4, 154, 0, 5, 3, 172, 27]
abbrev dktJ6_addAll_2_0 : List UInt8 := dkwJ6_addAll_2_0 ++ dktJ6_addAll_2_1
theorem dksJ6_addAll_2_0 : cJ6_addAll_2.data.toList.drop 0 = dktJ6_addAll_2_0 := by decide +kernel
theorem dksJ6_addAll_2_1 : cJ6_addAll_2.data.toList.drop 24 = dktJ6_addAll_2_1 := dk_seg dksJ6_addAll_2_0 24 rfl rfl
theorem dksJ6_addAll_2_2 : cJ6_addAll_2.data.toList.drop 48 = dktJ6_addAll_2_2 := dk_seg dksJ6_addAll_2_1 24 rfl rfl
theorem dksJ6_addAll_2_3 : cJ6_addAll_2.data.toList.drop 72 = dktJ6_addAll_2_3 := dk_seg dksJ6_addAll_2_2 24 rfl rfl
theorem dksJ6_addAll_2_4 : cJ6_addAll_2.data.toList.drop 95 = dktJ6_addAll_2_4 := dk_seg dksJ6_addAll_2_3 23 rfl rfl
theorem dksJ6_addAll_2_5 : cJ6_addAll_2.data.toList.drop 118 = dktJ6_addAll_2_5 := dk_seg dksJ6_addAll_2_4 23 rfl rfl
theorem dksJ6_addAll_2_6 : cJ6_addAll_2.data.toList.drop 142 = dktJ6_addAll_2_6 := dk_seg dksJ6_addAll_2_5 24 rfl rfl
theorem dksJ6_addAll_2_7 : cJ6_addAll_2.data.toList.drop 166 = dktJ6_addAll_2_7 := dk_seg dksJ6_addAll_2_6 24 rfl rfl
theorem dJ6_addAll_2_0 : decode cJ6_addAll_2 0 = .ok (.aload_n 0, 1) := dk_42 (dk_at dksJ6_addAll_2_0 0 rfl rfl)
theorem dJ6_addAll_2_1 : decode cJ6_addAll_2 1 = .ok (.iload_n 1, 1) := dk_27 (dk_at dksJ6_addAll_2_0 1 rfl rfl)
theorem dJ6_addAll_2_2 : decode cJ6_addAll_2 2 = .ok (.invokevirtual 76, 3) := dk_182 0 76 (dk_at dksJ6_addAll_2_0 2 rfl rfl)
theorem dJ6_addAll_2_5 : decode cJ6_addAll_2 5 = .ok (.aload_n 2, 1) := dk_44 (dk_at dksJ6_addAll_2_0 5 rfl rfl)
theorem dJ6_addAll_2_6 : decode cJ6_addAll_2 6 = .ok (.invokeinterface 80 1, 5) := by decide +kernel
theorem dJ6_addAll_2_11 : decode cJ6_addAll_2 11 = .ok (.astore_n 3, 1) := dk_78 (dk_at dksJ6_addAll_2_0 11 rfl rfl)
theorem dJ6_addAll_2_12 : decode cJ6_addAll_2 12 = .ok (.aload_n 3, 1) := dk_45 (dk_at dksJ6_addAll_2_0 12 rfl rfl)
theorem dJ6_addAll_2_13 : decode cJ6_addAll_2 13 = .ok (.arraylength, 1) := dk_190 (dk_at dksJ6_addAll_2_0 13 rfl rfl)
theorem dJ6_addAll_2_14 : decode cJ6_addAll_2 14 = .ok (.istore 4, 2) := dk_54 4 (dk_at dksJ6_addAll_2_0 14 rfl rfl)
theorem dJ6_addAll_2_16 : decode cJ6_addAll_2 16 = .ok (.iload 4, 2) := dk_21 4 (dk_at dksJ6_addAll_2_0 16 rfl rfl)
theorem dJ6_addAll_2_18 : decode cJ6_addAll_2 18 = .ok (.ifCond .ne 5, 3) := dk_154 0 5 (dk_at dksJ6_addAll_2_0 18 rfl rfl)
theorem dJ6_addAll_2_21 : decode cJ6_addAll_2 21 = .ok (.iconst 0, 1) := dk_3 (dk_at dksJ6_addAll_2_0 21 rfl rfl)
theorem dJ6_addAll_2_22 : decode cJ6_addAll_2 22 = .ok (.ireturn, 1) := dk_172 (dk_at dksJ6_addAll_2_0 22 rfl rfl)
theorem dJ6_addAll_2_23 : decode cJ6_addAll_2 23 = .ok (.iload_n 1, 1) := dk_27 (dk_at dksJ6_addAll_2_0 23 rfl rfl)
theorem dJ6_addAll_2_24 : decode cJ6_addAll_2 24 = .ok (.aload_n 0, 1) := dk_42 (dk_at dksJ6_addAll_2_1 0 rfl rfl)
theorem dJ6_addAll_2_25 : decode cJ6_addAll_2 25 = .ok (.getfield 7, 3) := dk_180 0 7 (dk_at dksJ6_addAll_2_1 1 rfl rfl)
theorem dJ6_addAll_2_28 : decode cJ6_addAll_2 28 = .ok (.if_icmp .ne 15, 3) := dk_160 0 15 (dk_at dksJ6_addAll_2_1 4 rfl rfl)
theorem dJ6_addAll_2_31 : decode cJ6_addAll_2 31 = .ok (.aconst_null, 1) := dk_1 (dk_at dksJ6_addAll_2_1 7 rfl rfl)
theorem dJ6_addAll_2_32 : decode cJ6_addAll_2 32 = .ok (.astore 6, 2) := dk_58 6 (dk_at dksJ6_addAll_2_1 8 rfl rfl)
theorem dJ6_addAll_2_34 : decode cJ6_addAll_2 34 = .ok (.aload_n 0, 1) := dk_42 (dk_at dksJ6_addAll_2_1 10 rfl rfl)
theorem dJ6_addAll_2_35 : decode cJ6_addAll_2 35 = .ok (.getfield 27, 3) := dk_180 0 27 (dk_at dksJ6_addAll_2_1 11 rfl rfl)
theorem dJ6_addAll_2_38 : decode cJ6_addAll_2 38 = .ok (.astore 5, 2) := dk_58 5 (dk_at dksJ6_addAll_2_1 14 rfl rfl)
theorem dJ6_addAll_2_40 : decode cJ6_addAll_2 40 = .ok (.goto 17, 3) := dk_167 0 17 (dk_at dksJ6_addAll_2_1 16 rfl rfl)
theorem dJ6_addAll_2_43 : decode cJ6_addAll_2 43 = .ok (.aload_n 0, 1) := dk_42 (dk_at dksJ6_addAll_2_1 19 rfl rfl)
theorem dJ6_addAll_2_44 : decode cJ6_addAll_2 44 = .ok (.iload_n 1, 1) := dk_27 (dk_at dksJ6_addAll_2_1 20 rfl rfl)
theorem dJ6_addAll_2_45 : decode cJ6_addAll_2 45 = .ok (.invokevirtual 86, 3) := dk_182 0 86 (dk_at dksJ6_addAll_2_1 21 rfl rfl)
theorem dJ6_addAll_2_48 : decode cJ6_addAll_2 48 = .ok (.astore 6, 2) := dk_58 6 (dk_at dksJ6_addAll_2_2 0 rfl rfl)
theorem dJ6_addAll_2_50 : decode cJ6_addAll_2 50 = .ok (.aload 6, 2) := dk_25 6 (dk_at dksJ6_addAll_2_2 2 rfl rfl)
theorem dJ6_addAll_2_52 : decode cJ6_addAll_2 52 = .ok (.getfield 30, 3) := dk_180 0 30 (dk_at dksJ6_addAll_2_2 4 rfl rfl)
theorem dJ6_addAll_2_55 : decode cJ6_addAll_2 55 = .ok (.astore 5, 2) := dk_58 5 (dk_at dksJ6_addAll_2_2 7 rfl rfl)
theorem dJ6_addAll_2_57 : decode cJ6_addAll_2 57 = .ok (.aload_n 3, 1) := dk_45 (dk_at dksJ6_addAll_2_2 9 rfl rfl)
theorem dJ6_addAll_2_58 : decode cJ6_addAll_2 58 = .ok (.astore 7, 2) := dk_58 7 (dk_at dksJ6_addAll_2_2 10 rfl rfl)
theorem dJ6_addAll_2_60 : decode cJ6_addAll_2 60 = .ok (.aload 7, 2) := dk_25 7 (dk_at dksJ6_addAll_2_2 12 rfl rfl)
theorem dJ6_addAll_2_62 : decode cJ6_addAll_2 62 = .ok (.arraylength, 1) := dk_190 (dk_at dksJ6_addAll_2_2 14 rfl rfl)
theorem dJ6_addAll_2_63 : decode cJ6_addAll_2 63 = .ok (.istore 8, 2) := dk_54 8 (dk_at dksJ6_addAll_2_2 15 rfl rfl)
theorem dJ6_addAll_2_65 : decode cJ6_addAll_2 65 = .ok (.iconst 0, 1) := dk_3 (dk_at dksJ6_addAll_2_2 17 rfl rfl)
theorem dJ6_addAll_2_66 : decode cJ6_addAll_2 66 = .ok (.istore 9, 2) := dk_54 9 (dk_at dksJ6_addAll_2_2 18 rfl rfl)
theorem dJ6_addAll_2_68 : decode cJ6_addAll_2 68 = .ok (.iload 9, 2) := dk_21 9 (dk_at dksJ6_addAll_2_2 20 rfl rfl)
theorem dJ6_addAll_2_70 : decode cJ6_addAll_2 70 = .ok (.iload 8, 2) := dk_21 8 (dk_at dksJ6_addAll_2_2 22 rfl rfl)
theorem dJ6_addAll_2_72 : decode cJ6_addAll_2 72 = .ok (.if_icmp .ge 59, 3) := dk_162 0 59 (dk_at dksJ6_addAll_2_3 0 rfl rfl)
theorem dJ6_addAll_2_75 : decode cJ6_addAll_2 75 = .ok (.aload 7, 2) := dk_25 7 (dk_at dksJ6_addAll_2_3 3 rfl rfl)
theorem dJ6_addAll_2_77 : decode cJ6_addAll_2 77 = .ok (.iload 9, 2) := dk_21 9 (dk_at dksJ6_addAll_2_3 5 rfl rfl)
theorem dJ6_addAll_2_79 : decode cJ6_addAll_2 79 = .ok (.aaload, 1) := dk_50 (dk_at dksJ6_addAll_2_3 7 rfl rfl)
theorem dJ6_addAll_2_80 : decode cJ6_addAll_2 80 = .ok (.astore 10, 2) := dk_58 10 (dk_at dksJ6_addAll_2_3 8 rfl rfl)
theorem dJ6_addAll_2_82 : decode cJ6_addAll_2 82 = .ok (.aload 10, 2) := dk_25 10 (dk_at dksJ6_addAll_2_3 10 rfl rfl)
theorem dJ6_addAll_2_84 : decode cJ6_addAll_2 84 = .ok (.astore 11, 2) := dk_58 11 (dk_at dksJ6_addAll_2_3 12 rfl rfl)
theorem dJ6_addAll_2_86 : decode cJ6_addAll_2 86 = .ok (.new 22, 3) := dk_187 0 22 (dk_at dksJ6_addAll_2_3 14 rfl rfl)
theorem dJ6_addAll_2_89 : decode cJ6_addAll_2 89 = .ok (.dup, 1) := dk_89 (dk_at dksJ6_addAll_2_3 17 rfl rfl)
theorem dJ6_addAll_2_90 : decode cJ6_addAll_2 90 = .ok (.aload 5, 2) := dk_25 5 (dk_at dksJ6_addAll_2_3 18 rfl rfl)
theorem dJ6_addAll_2_92 : decode cJ6_addAll_2 92 = .ok (.aload 11, 2) := dk_25 11 (dk_at dksJ6_addAll_2_3 20 rfl rfl)
theorem dJ6_addAll_2_94 : decode cJ6_addAll_2 94 = .ok (.aconst_null, 1) := dk_1 (dk_at dksJ6_addAll_2_3 22 rfl rfl)
theorem dJ6_addAll_2_95 : decode cJ6_addAll_2 95 = .ok (.invokespecial 24, 3) := dk_183 0 24 (dk_at dksJ6_addAll_2_4 0 rfl rfl)
theorem dJ6_addAll_2_98 : decode cJ6_addAll_2 98 = .ok (.astore 12, 2) := dk_58 12 (dk_at dksJ6_addAll_2_4 3 rfl rfl)
theorem dJ6_addAll_2_100 : decode cJ6_addAll_2 100 = .ok (.aload 5, 2) := dk_25 5 (dk_at dksJ6_addAll_2_4 5 rfl rfl)
theorem dJ6_addAll_2_102 : decode cJ6_addAll_2 102 = .ok (.ifnonnull 12, 3) := dk_199 0 12 (dk_at dksJ6_addAll_2_4 7 rfl rfl)
theorem dJ6_addAll_2_105 : decode cJ6_addAll_2 105 = .ok (.aload_n 0, 1) := dk_42 (dk_at dksJ6_addAll_2_4 10 rfl rfl)
theorem dJ6_addAll_2_106 : decode cJ6_addAll_2 106 = .ok (.aload 12, 2) := dk_25 12 (dk_at dksJ6_addAll_2_4 11 rfl rfl)
theorem dJ6_addAll_2_108 : decode cJ6_addAll_2 108 = .ok (.putfield 18, 3) := dk_181 0 18 (dk_at dksJ6_addAll_2_4 13 rfl rfl)
theorem dJ6_addAll_2_111 : decode cJ6_addAll_2 111 = .ok (.goto 10, 3) := dk_167 0 10 (dk_at dksJ6_addAll_2_4 16 rfl rfl)
theorem dJ6_addAll_2_114 : decode cJ6_addAll_2 114 = .ok (.aload 5, 2) := dk_25 5 (dk_at dksJ6_addAll_2_4 19 rfl rfl)
theorem dJ6_addAll_2_116 : decode cJ6_addAll_2 116 = .ok (.aload 12, 2) := dk_25 12 (dk_at dksJ6_addAll_2_4 21 rfl rfl)
theorem dJ6_addAll_2_118 : decode cJ6_addAll_2 118 = .ok (.putfield 36, 3) := dk_181 0 36 (dk_at dksJ6_addAll_2_5 0 rfl rfl)
theorem dJ6_addAll_2_121 : decode cJ6_addAll_2 121 = .ok (.aload 12, 2) := dk_25 12 (dk_at dksJ6_addAll_2_5 3 rfl rfl)
theorem dJ6_addAll_2_123 : decode cJ6_addAll_2 123 = .ok (.astore 5, 2) := dk_58 5 (dk_at dksJ6_addAll_2_5 5 rfl rfl)
theorem dJ6_addAll_2_125 : decode cJ6_addAll_2 125 = .ok (.iinc 9 1, 3) := dk_132 9 1 (dk_at dksJ6_addAll_2_5 7 rfl rfl)
theorem dJ6_addAll_2_128 : decode cJ6_addAll_2 128 = .ok (.goto (-60), 3) := dk_167 255 196 (dk_at dksJ6_addAll_2_5 10 rfl rfl)
theorem dJ6_addAll_2_131 : decode cJ6_addAll_2 131 = .ok (.aload 6, 2) := dk_25 6 (dk_at dksJ6_addAll_2_5 13 rfl rfl)
theorem dJ6_addAll_2_133 : decode cJ6_addAll_2 133 = .ok (.ifnonnull 12, 3) := dk_199 0 12 (dk_at dksJ6_addAll_2_5 15 rfl rfl)
theorem dJ6_addAll_2_136 : decode cJ6_addAll_2 136 = .ok (.aload_n 0, 1) := dk_42 (dk_at dksJ6_addAll_2_5 18 rfl rfl)
theorem dJ6_addAll_2_137 : decode cJ6_addAll_2 137 = .ok (.aload 5, 2) := dk_25 5 (dk_at dksJ6_addAll_2_5 19 rfl rfl)
theorem dJ6_addAll_2_139 : decode cJ6_addAll_2 139 = .ok (.putfield 27, 3) := dk_181 0 27 (dk_at dksJ6_addAll_2_5 21 rfl rfl)
theorem dJ6_addAll_2_142 : decode cJ6_addAll_2 142 = .ok (.goto 17, 3) := dk_167 0 17 (dk_at dksJ6_addAll_2_6 0 rfl rfl)
theorem dJ6_addAll_2_145 : decode cJ6_addAll_2 145 = .ok (.aload 5, 2) := dk_25 5 (dk_at dksJ6_addAll_2_6 3 rfl rfl)
theorem dJ6_addAll_2_147 : decode cJ6_addAll_2 147 = .ok (.aload 6, 2) := dk_25 6 (dk_at dksJ6_addAll_2_6 5 rfl rfl)
theorem dJ6_addAll_2_149 : decode cJ6_addAll_2 149 = .ok (.putfield 36, 3) := dk_181 0 36 (dk_at dksJ6_addAll_2_6 7 rfl rfl)
theorem dJ6_addAll_2_152 : decode cJ6_addAll_2 152 = .ok (.aload 6, 2) := dk_25 6 (dk_at dksJ6_addAll_2_6 10 rfl rfl)
theorem dJ6_addAll_2_154 : decode cJ6_addAll_2 154 = .ok (.aload 5, 2) := dk_25 5 (dk_at dksJ6_addAll_2_6 12 rfl rfl)
theorem dJ6_addAll_2_156 : decode cJ6_addAll_2 156 = .ok (.putfield 30, 3) := dk_181 0 30 (dk_at dksJ6_addAll_2_6 14 rfl rfl)
theorem dJ6_addAll_2_159 : decode cJ6_addAll_2 159 = .ok (.aload_n 0, 1) := dk_42 (dk_at dksJ6_addAll_2_6 17 rfl rfl)
theorem dJ6_addAll_2_160 : decode cJ6_addAll_2 160 = .ok (.dup, 1) := dk_89 (dk_at dksJ6_addAll_2_6 18 rfl rfl)
theorem dJ6_addAll_2_161 : decode cJ6_addAll_2 161 = .ok (.getfield 7, 3) := dk_180 0 7 (dk_at dksJ6_addAll_2_6 19 rfl rfl)
theorem dJ6_addAll_2_164 : decode cJ6_addAll_2 164 = .ok (.iload 4, 2) := dk_21 4 (dk_at dksJ6_addAll_2_6 22 rfl rfl)
theorem dJ6_addAll_2_166 : decode cJ6_addAll_2 166 = .ok (.iadd, 1) := dk_96 (dk_at dksJ6_addAll_2_7 0 rfl rfl)
theorem dJ6_addAll_2_167 : decode cJ6_addAll_2 167 = .ok (.putfield 7, 3) := dk_181 0 7 (dk_at dksJ6_addAll_2_7 1 rfl rfl)
theorem dJ6_addAll_2_170 : decode cJ6_addAll_2 170 = .ok (.aload_n 0, 1) := dk_42 (dk_at dksJ6_addAll_2_7 4 rfl rfl)
theorem dJ6_addAll_2_171 : decode cJ6_addAll_2 171 = .ok (.dup, 1) := dk_89 (dk_at dksJ6_addAll_2_7 5 rfl rfl)
theorem dJ6_addAll_2_172 : decode cJ6_addAll_2 172 = .ok (.getfield 33, 3) := dk_180 0 33 (dk_at dksJ6_addAll_2_7 6 rfl rfl)
theorem dJ6_addAll_2_175 : decode cJ6_addAll_2 175 = .ok (.iconst 1, 1) := dk_4 (dk_at dksJ6_addAll_2_7 9 rfl rfl)
theorem dJ6_addAll_2_176 : decode cJ6_addAll_2 176 = .ok (.iadd, 1) := dk_96 (dk_at dksJ6_addAll_2_7 10 rfl rfl)
theorem dJ6_addAll_2_177 : decode cJ6_addAll_2 177 = .ok (.putfield 33, 3) := dk_181 0 33 (dk_at dksJ6_addAll_2_7 11 rfl rfl)
theorem dJ6_addAll_2_180 : decode cJ6_addAll_2 180 = .ok (.iconst 1, 1) := dk_4 (dk_at dksJ6_addAll_2_7 14 rfl rfl)
theorem dJ6_addAll_2_181 : decode cJ6_addAll_2 181 = .ok (.ireturn, 1) := dk_172 (dk_at dksJ6_addAll_2_7 15 rfl rfl)
abbrev cJ6_toArray : ByteArray := prog_64_method_53_code
def yJ6_toArray : MethodName := ⟨RJ6, "toArray", "()[Ljava/lang/Object;"⟩
def dkwJ6_toArray_1 : List UInt8 := [45, 180, 0, 39, 83, 45, 180, 0, 36, 78, 167, 255, 237, 43, 176]
abbrev dktJ6_toArray_1 : List UInt8 := dkwJ6_toArray_1 ++ []
def dkwJ6_toArray_0 : List UInt8 := [42, 180, 0, 7, 189, 0, 68, 76, 3, 61, 42, 180, 0, 18, 78, 45, 198, 0, 21, 43, 28, 132, 2, 1]
abbrev dktJ6_toArray_0 : List UInt8 := dkwJ6_toArray_0 ++ dktJ6_toArray_1
theorem dksJ6_toArray_0 : cJ6_toArray.data.toList.drop 0 = dktJ6_toArray_0 := by decide +kernel
theorem dksJ6_toArray_1 : cJ6_toArray.data.toList.drop 24 = dktJ6_toArray_1 := dk_seg dksJ6_toArray_0 24 rfl rfl
theorem dJ6_toArray_0 : decode cJ6_toArray 0 = .ok (.aload_n 0, 1) := dk_42 (dk_at dksJ6_toArray_0 0 rfl rfl)
theorem dJ6_toArray_1 : decode cJ6_toArray 1 = .ok (.getfield 7, 3) := dk_180 0 7 (dk_at dksJ6_toArray_0 1 rfl rfl)
theorem dJ6_toArray_4 : decode cJ6_toArray 4 = .ok (.anewarray 68, 3) := dk_189 0 68 (dk_at dksJ6_toArray_0 4 rfl rfl)
theorem dJ6_toArray_7 : decode cJ6_toArray 7 = .ok (.astore_n 1, 1) := dk_76 (dk_at dksJ6_toArray_0 7 rfl rfl)
theorem dJ6_toArray_8 : decode cJ6_toArray 8 = .ok (.iconst 0, 1) := dk_3 (dk_at dksJ6_toArray_0 8 rfl rfl)
theorem dJ6_toArray_9 : decode cJ6_toArray 9 = .ok (.istore_n 2, 1) := dk_61 (dk_at dksJ6_toArray_0 9 rfl rfl)
theorem dJ6_toArray_10 : decode cJ6_toArray 10 = .ok (.aload_n 0, 1) := dk_42 (dk_at dksJ6_toArray_0 10 rfl rfl)
theorem dJ6_toArray_11 : decode cJ6_toArray 11 = .ok (.getfield 18, 3) := dk_180 0 18 (dk_at dksJ6_toArray_0 11 rfl rfl)
theorem dJ6_toArray_14 : decode cJ6_toArray 14 = .ok (.astore_n 3, 1) := dk_78 (dk_at dksJ6_toArray_0 14 rfl rfl)
theorem dJ6_toArray_15 : decode cJ6_toArray 15 = .ok (.aload_n 3, 1) := dk_45 (dk_at dksJ6_toArray_0 15 rfl rfl)
theorem dJ6_toArray_16 : decode cJ6_toArray 16 = .ok (.ifnull 21, 3) := dk_198 0 21 (dk_at dksJ6_toArray_0 16 rfl rfl)
theorem dJ6_toArray_19 : decode cJ6_toArray 19 = .ok (.aload_n 1, 1) := dk_43 (dk_at dksJ6_toArray_0 19 rfl rfl)
theorem dJ6_toArray_20 : decode cJ6_toArray 20 = .ok (.iload_n 2, 1) := dk_28 (dk_at dksJ6_toArray_0 20 rfl rfl)
theorem dJ6_toArray_21 : decode cJ6_toArray 21 = .ok (.iinc 2 1, 3) := dk_132 2 1 (dk_at dksJ6_toArray_0 21 rfl rfl)
theorem dJ6_toArray_24 : decode cJ6_toArray 24 = .ok (.aload_n 3, 1) := dk_45 (dk_at dksJ6_toArray_1 0 rfl rfl)
theorem dJ6_toArray_25 : decode cJ6_toArray 25 = .ok (.getfield 39, 3) := dk_180 0 39 (dk_at dksJ6_toArray_1 1 rfl rfl)
theorem dJ6_toArray_28 : decode cJ6_toArray 28 = .ok (.aastore, 1) := dk_83 (dk_at dksJ6_toArray_1 4 rfl rfl)
theorem dJ6_toArray_29 : decode cJ6_toArray 29 = .ok (.aload_n 3, 1) := dk_45 (dk_at dksJ6_toArray_1 5 rfl rfl)
theorem dJ6_toArray_30 : decode cJ6_toArray 30 = .ok (.getfield 36, 3) := dk_180 0 36 (dk_at dksJ6_toArray_1 6 rfl rfl)
theorem dJ6_toArray_33 : decode cJ6_toArray 33 = .ok (.astore_n 3, 1) := dk_78 (dk_at dksJ6_toArray_1 9 rfl rfl)
theorem dJ6_toArray_34 : decode cJ6_toArray 34 = .ok (.goto (-19), 3) := dk_167 255 237 (dk_at dksJ6_toArray_1 10 rfl rfl)
theorem dJ6_toArray_37 : decode cJ6_toArray 37 = .ok (.aload_n 1, 1) := dk_43 (dk_at dksJ6_toArray_1 13 rfl rfl)
theorem dJ6_toArray_38 : decode cJ6_toArray 38 = .ok (.areturn, 1) := dk_176 (dk_at dksJ6_toArray_1 14 rfl rfl)
abbrev cJ6_removeFirst : ByteArray := prog_64_method_11_code
def yJ6_removeFirst : MethodName := ⟨RJ6, "removeFirst", "()Ljava/lang/Object;"⟩
def dkwJ6_removeFirst_0 : List UInt8 := [42, 180, 0, 18, 76, 43, 199, 0, 11, 187, 0, 43, 89, 183, 0, 45, 191, 42, 43, 182, 0, 46, 176]
abbrev dktJ6_removeFirst_0 : List UInt8 := dkwJ6_removeFirst_0 ++ []
theorem dksJ6_removeFirst_0 : cJ6_removeFirst.data.toList.drop 0 = dktJ6_removeFirst_0 := by decide +kernel
theorem dJ6_removeFirst_0 : decode cJ6_removeFirst 0 = .ok (.aload_n 0, 1) := dk_42 (dk_at dksJ6_removeFirst_0 0 rfl rfl)
theorem dJ6_removeFirst_1 : decode cJ6_removeFirst 1 = .ok (.getfield 18, 3) := dk_180 0 18 (dk_at dksJ6_removeFirst_0 1 rfl rfl)
theorem dJ6_removeFirst_4 : decode cJ6_removeFirst 4 = .ok (.astore_n 1, 1) := dk_76 (dk_at dksJ6_removeFirst_0 4 rfl rfl)
theorem dJ6_removeFirst_5 : decode cJ6_removeFirst 5 = .ok (.aload_n 1, 1) := dk_43 (dk_at dksJ6_removeFirst_0 5 rfl rfl)
theorem dJ6_removeFirst_6 : decode cJ6_removeFirst 6 = .ok (.ifnonnull 11, 3) := dk_199 0 11 (dk_at dksJ6_removeFirst_0 6 rfl rfl)
theorem dJ6_removeFirst_9 : decode cJ6_removeFirst 9 = .ok (.new 43, 3) := dk_187 0 43 (dk_at dksJ6_removeFirst_0 9 rfl rfl)
theorem dJ6_removeFirst_12 : decode cJ6_removeFirst 12 = .ok (.dup, 1) := dk_89 (dk_at dksJ6_removeFirst_0 12 rfl rfl)
theorem dJ6_removeFirst_13 : decode cJ6_removeFirst 13 = .ok (.invokespecial 45, 3) := dk_183 0 45 (dk_at dksJ6_removeFirst_0 13 rfl rfl)
theorem dJ6_removeFirst_16 : decode cJ6_removeFirst 16 = .ok (.athrow, 1) := dk_191 (dk_at dksJ6_removeFirst_0 16 rfl rfl)
theorem dJ6_removeFirst_17 : decode cJ6_removeFirst 17 = .ok (.aload_n 0, 1) := dk_42 (dk_at dksJ6_removeFirst_0 17 rfl rfl)
theorem dJ6_removeFirst_18 : decode cJ6_removeFirst 18 = .ok (.aload_n 1, 1) := dk_43 (dk_at dksJ6_removeFirst_0 18 rfl rfl)
theorem dJ6_removeFirst_19 : decode cJ6_removeFirst 19 = .ok (.invokevirtual 46, 3) := dk_182 0 46 (dk_at dksJ6_removeFirst_0 19 rfl rfl)
theorem dJ6_removeFirst_22 : decode cJ6_removeFirst 22 = .ok (.areturn, 1) := dk_176 (dk_at dksJ6_removeFirst_0 22 rfl rfl)
abbrev cJ6_unlinkFirst : ByteArray := prog_64_method_6_code
def yJ6_unlinkFirst : MethodName := ⟨RJ6, "unlinkFirst", "(Ljava/util/LinkedList$Node;)Ljava/lang/Object;"⟩
def dkwJ6_unlinkFirst_2 : List UInt8 := [180, 0, 7, 4, 100, 181, 0, 7, 42, 89, 180, 0, 33, 4, 96, 181, 0, 33, 44, 176]
abbrev dktJ6_unlinkFirst_2 : List UInt8 := dkwJ6_unlinkFirst_2 ++ []
def dkwJ6_unlinkFirst_1 : List UInt8 := [181, 0, 18, 45, 199, 0, 11, 42, 1, 181, 0, 27, 167, 0, 8, 45, 1, 181, 0, 30, 42, 89]
abbrev dktJ6_unlinkFirst_1 : List UInt8 := dkwJ6_unlinkFirst_1 ++ dktJ6_unlinkFirst_2
def dkwJ6_unlinkFirst_0 : List UInt8 := [43, 180, 0, 39, 77, 43, 180, 0, 36, 78, 43, 1, 181, 0, 39, 43, 1, 181, 0, 36, 42, 45]
abbrev dktJ6_unlinkFirst_0 : List UInt8 := dkwJ6_unlinkFirst_0 ++ dktJ6_unlinkFirst_1
theorem dksJ6_unlinkFirst_0 : cJ6_unlinkFirst.data.toList.drop 0 = dktJ6_unlinkFirst_0 := by decide +kernel
theorem dksJ6_unlinkFirst_1 : cJ6_unlinkFirst.data.toList.drop 22 = dktJ6_unlinkFirst_1 := dk_seg dksJ6_unlinkFirst_0 22 rfl rfl
theorem dksJ6_unlinkFirst_2 : cJ6_unlinkFirst.data.toList.drop 44 = dktJ6_unlinkFirst_2 := dk_seg dksJ6_unlinkFirst_1 22 rfl rfl
theorem dJ6_unlinkFirst_0 : decode cJ6_unlinkFirst 0 = .ok (.aload_n 1, 1) := dk_43 (dk_at dksJ6_unlinkFirst_0 0 rfl rfl)
theorem dJ6_unlinkFirst_1 : decode cJ6_unlinkFirst 1 = .ok (.getfield 39, 3) := dk_180 0 39 (dk_at dksJ6_unlinkFirst_0 1 rfl rfl)
theorem dJ6_unlinkFirst_4 : decode cJ6_unlinkFirst 4 = .ok (.astore_n 2, 1) := dk_77 (dk_at dksJ6_unlinkFirst_0 4 rfl rfl)
theorem dJ6_unlinkFirst_5 : decode cJ6_unlinkFirst 5 = .ok (.aload_n 1, 1) := dk_43 (dk_at dksJ6_unlinkFirst_0 5 rfl rfl)
theorem dJ6_unlinkFirst_6 : decode cJ6_unlinkFirst 6 = .ok (.getfield 36, 3) := dk_180 0 36 (dk_at dksJ6_unlinkFirst_0 6 rfl rfl)
theorem dJ6_unlinkFirst_9 : decode cJ6_unlinkFirst 9 = .ok (.astore_n 3, 1) := dk_78 (dk_at dksJ6_unlinkFirst_0 9 rfl rfl)
theorem dJ6_unlinkFirst_10 : decode cJ6_unlinkFirst 10 = .ok (.aload_n 1, 1) := dk_43 (dk_at dksJ6_unlinkFirst_0 10 rfl rfl)
theorem dJ6_unlinkFirst_11 : decode cJ6_unlinkFirst 11 = .ok (.aconst_null, 1) := dk_1 (dk_at dksJ6_unlinkFirst_0 11 rfl rfl)
theorem dJ6_unlinkFirst_12 : decode cJ6_unlinkFirst 12 = .ok (.putfield 39, 3) := dk_181 0 39 (dk_at dksJ6_unlinkFirst_0 12 rfl rfl)
theorem dJ6_unlinkFirst_15 : decode cJ6_unlinkFirst 15 = .ok (.aload_n 1, 1) := dk_43 (dk_at dksJ6_unlinkFirst_0 15 rfl rfl)
theorem dJ6_unlinkFirst_16 : decode cJ6_unlinkFirst 16 = .ok (.aconst_null, 1) := dk_1 (dk_at dksJ6_unlinkFirst_0 16 rfl rfl)
theorem dJ6_unlinkFirst_17 : decode cJ6_unlinkFirst 17 = .ok (.putfield 36, 3) := dk_181 0 36 (dk_at dksJ6_unlinkFirst_0 17 rfl rfl)
theorem dJ6_unlinkFirst_20 : decode cJ6_unlinkFirst 20 = .ok (.aload_n 0, 1) := dk_42 (dk_at dksJ6_unlinkFirst_0 20 rfl rfl)
theorem dJ6_unlinkFirst_21 : decode cJ6_unlinkFirst 21 = .ok (.aload_n 3, 1) := dk_45 (dk_at dksJ6_unlinkFirst_0 21 rfl rfl)
theorem dJ6_unlinkFirst_22 : decode cJ6_unlinkFirst 22 = .ok (.putfield 18, 3) := dk_181 0 18 (dk_at dksJ6_unlinkFirst_1 0 rfl rfl)
theorem dJ6_unlinkFirst_25 : decode cJ6_unlinkFirst 25 = .ok (.aload_n 3, 1) := dk_45 (dk_at dksJ6_unlinkFirst_1 3 rfl rfl)
theorem dJ6_unlinkFirst_26 : decode cJ6_unlinkFirst 26 = .ok (.ifnonnull 11, 3) := dk_199 0 11 (dk_at dksJ6_unlinkFirst_1 4 rfl rfl)
theorem dJ6_unlinkFirst_29 : decode cJ6_unlinkFirst 29 = .ok (.aload_n 0, 1) := dk_42 (dk_at dksJ6_unlinkFirst_1 7 rfl rfl)
theorem dJ6_unlinkFirst_30 : decode cJ6_unlinkFirst 30 = .ok (.aconst_null, 1) := dk_1 (dk_at dksJ6_unlinkFirst_1 8 rfl rfl)
theorem dJ6_unlinkFirst_31 : decode cJ6_unlinkFirst 31 = .ok (.putfield 27, 3) := dk_181 0 27 (dk_at dksJ6_unlinkFirst_1 9 rfl rfl)
theorem dJ6_unlinkFirst_34 : decode cJ6_unlinkFirst 34 = .ok (.goto 8, 3) := dk_167 0 8 (dk_at dksJ6_unlinkFirst_1 12 rfl rfl)
theorem dJ6_unlinkFirst_37 : decode cJ6_unlinkFirst 37 = .ok (.aload_n 3, 1) := dk_45 (dk_at dksJ6_unlinkFirst_1 15 rfl rfl)
theorem dJ6_unlinkFirst_38 : decode cJ6_unlinkFirst 38 = .ok (.aconst_null, 1) := dk_1 (dk_at dksJ6_unlinkFirst_1 16 rfl rfl)
theorem dJ6_unlinkFirst_39 : decode cJ6_unlinkFirst 39 = .ok (.putfield 30, 3) := dk_181 0 30 (dk_at dksJ6_unlinkFirst_1 17 rfl rfl)
theorem dJ6_unlinkFirst_42 : decode cJ6_unlinkFirst 42 = .ok (.aload_n 0, 1) := dk_42 (dk_at dksJ6_unlinkFirst_1 20 rfl rfl)
theorem dJ6_unlinkFirst_43 : decode cJ6_unlinkFirst 43 = .ok (.dup, 1) := dk_89 (dk_at dksJ6_unlinkFirst_1 21 rfl rfl)
theorem dJ6_unlinkFirst_44 : decode cJ6_unlinkFirst 44 = .ok (.getfield 7, 3) := dk_180 0 7 (dk_at dksJ6_unlinkFirst_2 0 rfl rfl)
theorem dJ6_unlinkFirst_47 : decode cJ6_unlinkFirst 47 = .ok (.iconst 1, 1) := dk_4 (dk_at dksJ6_unlinkFirst_2 3 rfl rfl)
theorem dJ6_unlinkFirst_48 : decode cJ6_unlinkFirst 48 = .ok (.isub, 1) := dk_100 (dk_at dksJ6_unlinkFirst_2 4 rfl rfl)
theorem dJ6_unlinkFirst_49 : decode cJ6_unlinkFirst 49 = .ok (.putfield 7, 3) := dk_181 0 7 (dk_at dksJ6_unlinkFirst_2 5 rfl rfl)
theorem dJ6_unlinkFirst_52 : decode cJ6_unlinkFirst 52 = .ok (.aload_n 0, 1) := dk_42 (dk_at dksJ6_unlinkFirst_2 8 rfl rfl)
theorem dJ6_unlinkFirst_53 : decode cJ6_unlinkFirst 53 = .ok (.dup, 1) := dk_89 (dk_at dksJ6_unlinkFirst_2 9 rfl rfl)
theorem dJ6_unlinkFirst_54 : decode cJ6_unlinkFirst 54 = .ok (.getfield 33, 3) := dk_180 0 33 (dk_at dksJ6_unlinkFirst_2 10 rfl rfl)
theorem dJ6_unlinkFirst_57 : decode cJ6_unlinkFirst 57 = .ok (.iconst 1, 1) := dk_4 (dk_at dksJ6_unlinkFirst_2 13 rfl rfl)
theorem dJ6_unlinkFirst_58 : decode cJ6_unlinkFirst 58 = .ok (.iadd, 1) := dk_96 (dk_at dksJ6_unlinkFirst_2 14 rfl rfl)
theorem dJ6_unlinkFirst_59 : decode cJ6_unlinkFirst 59 = .ok (.putfield 33, 3) := dk_181 0 33 (dk_at dksJ6_unlinkFirst_2 15 rfl rfl)
theorem dJ6_unlinkFirst_62 : decode cJ6_unlinkFirst 62 = .ok (.aload_n 2, 1) := dk_44 (dk_at dksJ6_unlinkFirst_2 18 rfl rfl)
theorem dJ6_unlinkFirst_63 : decode cJ6_unlinkFirst 63 = .ok (.areturn, 1) := dk_176 (dk_at dksJ6_unlinkFirst_2 19 rfl rfl)
abbrev cJ6_addLast : ByteArray := prog_64_method_14_code
def yJ6_addLast : MethodName := ⟨RJ6, "addLast", "(Ljava/lang/Object;)V"⟩
def dkwJ6_addLast_0 : List UInt8 := [42, 43, 182, 0, 57, 177]
abbrev dktJ6_addLast_0 : List UInt8 := dkwJ6_addLast_0 ++ []
theorem dksJ6_addLast_0 : cJ6_addLast.data.toList.drop 0 = dktJ6_addLast_0 := by decide +kernel
theorem dJ6_addLast_0 : decode cJ6_addLast 0 = .ok (.aload_n 0, 1) := dk_42 (dk_at dksJ6_addLast_0 0 rfl rfl)
theorem dJ6_addLast_1 : decode cJ6_addLast 1 = .ok (.aload_n 1, 1) := dk_43 (dk_at dksJ6_addLast_0 1 rfl rfl)
theorem dJ6_addLast_2 : decode cJ6_addLast 2 = .ok (.invokevirtual 57, 3) := dk_182 0 57 (dk_at dksJ6_addLast_0 2 rfl rfl)
theorem dJ6_addLast_5 : decode cJ6_addLast 5 = .ok (.return_, 1) := dk_177 (dk_at dksJ6_addLast_0 5 rfl rfl)
abbrev cJ6_indexOf : ByteArray := prog_64_method_32_code
def yJ6_indexOf : MethodName := ⟨RJ6, "indexOf", "(Ljava/lang/Object;)I"⟩
def dkwJ6_indexOf_3 : List UInt8 := [172]
abbrev dktJ6_indexOf_3 : List UInt8 := dkwJ6_indexOf_3 ++ []
def dkwJ6_indexOf_2 : List UInt8 := [45, 180, 0, 39, 182, 0, 67, 153, 0, 5, 28, 172, 132, 2, 1, 45, 180, 0, 36, 78, 167, 255, 231, 2]
abbrev dktJ6_indexOf_2 : List UInt8 := dkwJ6_indexOf_2 ++ dktJ6_indexOf_3
def dkwJ6_indexOf_1 : List UInt8 := [132, 2, 1, 45, 180, 0, 36, 78, 167, 255, 235, 167, 0, 36, 42, 180, 0, 18, 78, 45, 198, 0, 27, 43]
abbrev dktJ6_indexOf_1 : List UInt8 := dkwJ6_indexOf_1 ++ dktJ6_indexOf_2
def dkwJ6_indexOf_0 : List UInt8 := [3, 61, 43, 199, 0, 35, 42, 180, 0, 18, 78, 45, 198, 0, 23, 45, 180, 0, 39, 199, 0, 5, 28, 172]
abbrev dktJ6_indexOf_0 : List UInt8 := dkwJ6_indexOf_0 ++ dktJ6_indexOf_1
theorem dksJ6_indexOf_0 : cJ6_indexOf.data.toList.drop 0 = dktJ6_indexOf_0 := by decide +kernel
theorem dksJ6_indexOf_1 : cJ6_indexOf.data.toList.drop 24 = dktJ6_indexOf_1 := dk_seg dksJ6_indexOf_0 24 rfl rfl
theorem dksJ6_indexOf_2 : cJ6_indexOf.data.toList.drop 48 = dktJ6_indexOf_2 := dk_seg dksJ6_indexOf_1 24 rfl rfl
theorem dksJ6_indexOf_3 : cJ6_indexOf.data.toList.drop 72 = dktJ6_indexOf_3 := dk_seg dksJ6_indexOf_2 24 rfl rfl
theorem dJ6_indexOf_0 : decode cJ6_indexOf 0 = .ok (.iconst 0, 1) := dk_3 (dk_at dksJ6_indexOf_0 0 rfl rfl)
theorem dJ6_indexOf_1 : decode cJ6_indexOf 1 = .ok (.istore_n 2, 1) := dk_61 (dk_at dksJ6_indexOf_0 1 rfl rfl)
theorem dJ6_indexOf_2 : decode cJ6_indexOf 2 = .ok (.aload_n 1, 1) := dk_43 (dk_at dksJ6_indexOf_0 2 rfl rfl)
theorem dJ6_indexOf_3 : decode cJ6_indexOf 3 = .ok (.ifnonnull 35, 3) := dk_199 0 35 (dk_at dksJ6_indexOf_0 3 rfl rfl)
theorem dJ6_indexOf_6 : decode cJ6_indexOf 6 = .ok (.aload_n 0, 1) := dk_42 (dk_at dksJ6_indexOf_0 6 rfl rfl)
theorem dJ6_indexOf_7 : decode cJ6_indexOf 7 = .ok (.getfield 18, 3) := dk_180 0 18 (dk_at dksJ6_indexOf_0 7 rfl rfl)
theorem dJ6_indexOf_10 : decode cJ6_indexOf 10 = .ok (.astore_n 3, 1) := dk_78 (dk_at dksJ6_indexOf_0 10 rfl rfl)
theorem dJ6_indexOf_11 : decode cJ6_indexOf 11 = .ok (.aload_n 3, 1) := dk_45 (dk_at dksJ6_indexOf_0 11 rfl rfl)
theorem dJ6_indexOf_12 : decode cJ6_indexOf 12 = .ok (.ifnull 23, 3) := dk_198 0 23 (dk_at dksJ6_indexOf_0 12 rfl rfl)
theorem dJ6_indexOf_15 : decode cJ6_indexOf 15 = .ok (.aload_n 3, 1) := dk_45 (dk_at dksJ6_indexOf_0 15 rfl rfl)
theorem dJ6_indexOf_16 : decode cJ6_indexOf 16 = .ok (.getfield 39, 3) := dk_180 0 39 (dk_at dksJ6_indexOf_0 16 rfl rfl)
theorem dJ6_indexOf_19 : decode cJ6_indexOf 19 = .ok (.ifnonnull 5, 3) := dk_199 0 5 (dk_at dksJ6_indexOf_0 19 rfl rfl)
theorem dJ6_indexOf_22 : decode cJ6_indexOf 22 = .ok (.iload_n 2, 1) := dk_28 (dk_at dksJ6_indexOf_0 22 rfl rfl)
theorem dJ6_indexOf_23 : decode cJ6_indexOf 23 = .ok (.ireturn, 1) := dk_172 (dk_at dksJ6_indexOf_0 23 rfl rfl)
theorem dJ6_indexOf_24 : decode cJ6_indexOf 24 = .ok (.iinc 2 1, 3) := dk_132 2 1 (dk_at dksJ6_indexOf_1 0 rfl rfl)
theorem dJ6_indexOf_27 : decode cJ6_indexOf 27 = .ok (.aload_n 3, 1) := dk_45 (dk_at dksJ6_indexOf_1 3 rfl rfl)
theorem dJ6_indexOf_28 : decode cJ6_indexOf 28 = .ok (.getfield 36, 3) := dk_180 0 36 (dk_at dksJ6_indexOf_1 4 rfl rfl)
theorem dJ6_indexOf_31 : decode cJ6_indexOf 31 = .ok (.astore_n 3, 1) := dk_78 (dk_at dksJ6_indexOf_1 7 rfl rfl)
theorem dJ6_indexOf_32 : decode cJ6_indexOf 32 = .ok (.goto (-21), 3) := dk_167 255 235 (dk_at dksJ6_indexOf_1 8 rfl rfl)
theorem dJ6_indexOf_35 : decode cJ6_indexOf 35 = .ok (.goto 36, 3) := dk_167 0 36 (dk_at dksJ6_indexOf_1 11 rfl rfl)
theorem dJ6_indexOf_38 : decode cJ6_indexOf 38 = .ok (.aload_n 0, 1) := dk_42 (dk_at dksJ6_indexOf_1 14 rfl rfl)
theorem dJ6_indexOf_39 : decode cJ6_indexOf 39 = .ok (.getfield 18, 3) := dk_180 0 18 (dk_at dksJ6_indexOf_1 15 rfl rfl)
theorem dJ6_indexOf_42 : decode cJ6_indexOf 42 = .ok (.astore_n 3, 1) := dk_78 (dk_at dksJ6_indexOf_1 18 rfl rfl)
theorem dJ6_indexOf_43 : decode cJ6_indexOf 43 = .ok (.aload_n 3, 1) := dk_45 (dk_at dksJ6_indexOf_1 19 rfl rfl)
theorem dJ6_indexOf_44 : decode cJ6_indexOf 44 = .ok (.ifnull 27, 3) := dk_198 0 27 (dk_at dksJ6_indexOf_1 20 rfl rfl)
theorem dJ6_indexOf_47 : decode cJ6_indexOf 47 = .ok (.aload_n 1, 1) := dk_43 (dk_at dksJ6_indexOf_1 23 rfl rfl)
theorem dJ6_indexOf_48 : decode cJ6_indexOf 48 = .ok (.aload_n 3, 1) := dk_45 (dk_at dksJ6_indexOf_2 0 rfl rfl)
theorem dJ6_indexOf_49 : decode cJ6_indexOf 49 = .ok (.getfield 39, 3) := dk_180 0 39 (dk_at dksJ6_indexOf_2 1 rfl rfl)
theorem dJ6_indexOf_52 : decode cJ6_indexOf 52 = .ok (.invokevirtual 67, 3) := dk_182 0 67 (dk_at dksJ6_indexOf_2 4 rfl rfl)
theorem dJ6_indexOf_55 : decode cJ6_indexOf 55 = .ok (.ifCond .eq 5, 3) := dk_153 0 5 (dk_at dksJ6_indexOf_2 7 rfl rfl)
theorem dJ6_indexOf_58 : decode cJ6_indexOf 58 = .ok (.iload_n 2, 1) := dk_28 (dk_at dksJ6_indexOf_2 10 rfl rfl)
theorem dJ6_indexOf_59 : decode cJ6_indexOf 59 = .ok (.ireturn, 1) := dk_172 (dk_at dksJ6_indexOf_2 11 rfl rfl)
theorem dJ6_indexOf_60 : decode cJ6_indexOf 60 = .ok (.iinc 2 1, 3) := dk_132 2 1 (dk_at dksJ6_indexOf_2 12 rfl rfl)
theorem dJ6_indexOf_63 : decode cJ6_indexOf 63 = .ok (.aload_n 3, 1) := dk_45 (dk_at dksJ6_indexOf_2 15 rfl rfl)
theorem dJ6_indexOf_64 : decode cJ6_indexOf 64 = .ok (.getfield 36, 3) := dk_180 0 36 (dk_at dksJ6_indexOf_2 16 rfl rfl)
theorem dJ6_indexOf_67 : decode cJ6_indexOf 67 = .ok (.astore_n 3, 1) := dk_78 (dk_at dksJ6_indexOf_2 19 rfl rfl)
theorem dJ6_indexOf_68 : decode cJ6_indexOf 68 = .ok (.goto (-25), 3) := dk_167 255 231 (dk_at dksJ6_indexOf_2 20 rfl rfl)
theorem dJ6_indexOf_71 : decode cJ6_indexOf 71 = .ok (.iconst (-1), 1) := dk_2 (dk_at dksJ6_indexOf_2 23 rfl rfl)
theorem dJ6_indexOf_72 : decode cJ6_indexOf 72 = .ok (.ireturn, 1) := dk_172 (dk_at dksJ6_indexOf_3 0 rfl rfl)
abbrev cJ6_remove : ByteArray := prog_64_method_18_code
def yJ6_remove : MethodName := ⟨RJ6, "remove", "(Ljava/lang/Object;)Z"⟩
def dkwJ6_remove_3 : List UInt8 := [180, 0, 36, 77, 167, 255, 228, 3, 172]
abbrev dktJ6_remove_3 : List UInt8 := dkwJ6_remove_3 ++ []
def dkwJ6_remove_2 : List UInt8 := [198, 0, 30, 43, 44, 180, 0, 39, 182, 0, 67, 153, 0, 11, 42, 44, 182, 0, 64, 87, 4, 172, 44]
abbrev dktJ6_remove_2 : List UInt8 := dkwJ6_remove_2 ++ dktJ6_remove_3
def dkwJ6_remove_1 : List UInt8 := [182, 0, 64, 87, 4, 172, 44, 180, 0, 36, 77, 167, 255, 232, 167, 0, 39, 42, 180, 0, 18, 77, 44]
abbrev dktJ6_remove_1 : List UInt8 := dkwJ6_remove_1 ++ dktJ6_remove_2
def dkwJ6_remove_0 : List UInt8 := [43, 199, 0, 38, 42, 180, 0, 18, 77, 44, 198, 0, 26, 44, 180, 0, 39, 199, 0, 11, 42, 44]
abbrev dktJ6_remove_0 : List UInt8 := dkwJ6_remove_0 ++ dktJ6_remove_1
theorem dksJ6_remove_0 : cJ6_remove.data.toList.drop 0 = dktJ6_remove_0 := by decide +kernel
theorem dksJ6_remove_1 : cJ6_remove.data.toList.drop 22 = dktJ6_remove_1 := dk_seg dksJ6_remove_0 22 rfl rfl
theorem dksJ6_remove_2 : cJ6_remove.data.toList.drop 45 = dktJ6_remove_2 := dk_seg dksJ6_remove_1 23 rfl rfl
theorem dksJ6_remove_3 : cJ6_remove.data.toList.drop 68 = dktJ6_remove_3 := dk_seg dksJ6_remove_2 23 rfl rfl
theorem dJ6_remove_0 : decode cJ6_remove 0 = .ok (.aload_n 1, 1) := dk_43 (dk_at dksJ6_remove_0 0 rfl rfl)
theorem dJ6_remove_1 : decode cJ6_remove 1 = .ok (.ifnonnull 38, 3) := dk_199 0 38 (dk_at dksJ6_remove_0 1 rfl rfl)
theorem dJ6_remove_4 : decode cJ6_remove 4 = .ok (.aload_n 0, 1) := dk_42 (dk_at dksJ6_remove_0 4 rfl rfl)
theorem dJ6_remove_5 : decode cJ6_remove 5 = .ok (.getfield 18, 3) := dk_180 0 18 (dk_at dksJ6_remove_0 5 rfl rfl)
theorem dJ6_remove_8 : decode cJ6_remove 8 = .ok (.astore_n 2, 1) := dk_77 (dk_at dksJ6_remove_0 8 rfl rfl)
theorem dJ6_remove_9 : decode cJ6_remove 9 = .ok (.aload_n 2, 1) := dk_44 (dk_at dksJ6_remove_0 9 rfl rfl)
theorem dJ6_remove_10 : decode cJ6_remove 10 = .ok (.ifnull 26, 3) := dk_198 0 26 (dk_at dksJ6_remove_0 10 rfl rfl)
theorem dJ6_remove_13 : decode cJ6_remove 13 = .ok (.aload_n 2, 1) := dk_44 (dk_at dksJ6_remove_0 13 rfl rfl)
theorem dJ6_remove_14 : decode cJ6_remove 14 = .ok (.getfield 39, 3) := dk_180 0 39 (dk_at dksJ6_remove_0 14 rfl rfl)
theorem dJ6_remove_17 : decode cJ6_remove 17 = .ok (.ifnonnull 11, 3) := dk_199 0 11 (dk_at dksJ6_remove_0 17 rfl rfl)
theorem dJ6_remove_20 : decode cJ6_remove 20 = .ok (.aload_n 0, 1) := dk_42 (dk_at dksJ6_remove_0 20 rfl rfl)
theorem dJ6_remove_21 : decode cJ6_remove 21 = .ok (.aload_n 2, 1) := dk_44 (dk_at dksJ6_remove_0 21 rfl rfl)
theorem dJ6_remove_22 : decode cJ6_remove 22 = .ok (.invokevirtual 64, 3) := dk_182 0 64 (dk_at dksJ6_remove_1 0 rfl rfl)
theorem dJ6_remove_25 : decode cJ6_remove 25 = .ok (.pop, 1) := dk_87 (dk_at dksJ6_remove_1 3 rfl rfl)
theorem dJ6_remove_26 : decode cJ6_remove 26 = .ok (.iconst 1, 1) := dk_4 (dk_at dksJ6_remove_1 4 rfl rfl)
theorem dJ6_remove_27 : decode cJ6_remove 27 = .ok (.ireturn, 1) := dk_172 (dk_at dksJ6_remove_1 5 rfl rfl)
theorem dJ6_remove_28 : decode cJ6_remove 28 = .ok (.aload_n 2, 1) := dk_44 (dk_at dksJ6_remove_1 6 rfl rfl)
theorem dJ6_remove_29 : decode cJ6_remove 29 = .ok (.getfield 36, 3) := dk_180 0 36 (dk_at dksJ6_remove_1 7 rfl rfl)
theorem dJ6_remove_32 : decode cJ6_remove 32 = .ok (.astore_n 2, 1) := dk_77 (dk_at dksJ6_remove_1 10 rfl rfl)
theorem dJ6_remove_33 : decode cJ6_remove 33 = .ok (.goto (-24), 3) := dk_167 255 232 (dk_at dksJ6_remove_1 11 rfl rfl)
theorem dJ6_remove_36 : decode cJ6_remove 36 = .ok (.goto 39, 3) := dk_167 0 39 (dk_at dksJ6_remove_1 14 rfl rfl)
theorem dJ6_remove_39 : decode cJ6_remove 39 = .ok (.aload_n 0, 1) := dk_42 (dk_at dksJ6_remove_1 17 rfl rfl)
theorem dJ6_remove_40 : decode cJ6_remove 40 = .ok (.getfield 18, 3) := dk_180 0 18 (dk_at dksJ6_remove_1 18 rfl rfl)
theorem dJ6_remove_43 : decode cJ6_remove 43 = .ok (.astore_n 2, 1) := dk_77 (dk_at dksJ6_remove_1 21 rfl rfl)
theorem dJ6_remove_44 : decode cJ6_remove 44 = .ok (.aload_n 2, 1) := dk_44 (dk_at dksJ6_remove_1 22 rfl rfl)
theorem dJ6_remove_45 : decode cJ6_remove 45 = .ok (.ifnull 30, 3) := dk_198 0 30 (dk_at dksJ6_remove_2 0 rfl rfl)
theorem dJ6_remove_48 : decode cJ6_remove 48 = .ok (.aload_n 1, 1) := dk_43 (dk_at dksJ6_remove_2 3 rfl rfl)
theorem dJ6_remove_49 : decode cJ6_remove 49 = .ok (.aload_n 2, 1) := dk_44 (dk_at dksJ6_remove_2 4 rfl rfl)
theorem dJ6_remove_50 : decode cJ6_remove 50 = .ok (.getfield 39, 3) := dk_180 0 39 (dk_at dksJ6_remove_2 5 rfl rfl)
theorem dJ6_remove_53 : decode cJ6_remove 53 = .ok (.invokevirtual 67, 3) := dk_182 0 67 (dk_at dksJ6_remove_2 8 rfl rfl)
theorem dJ6_remove_56 : decode cJ6_remove 56 = .ok (.ifCond .eq 11, 3) := dk_153 0 11 (dk_at dksJ6_remove_2 11 rfl rfl)
theorem dJ6_remove_59 : decode cJ6_remove 59 = .ok (.aload_n 0, 1) := dk_42 (dk_at dksJ6_remove_2 14 rfl rfl)
theorem dJ6_remove_60 : decode cJ6_remove 60 = .ok (.aload_n 2, 1) := dk_44 (dk_at dksJ6_remove_2 15 rfl rfl)
theorem dJ6_remove_61 : decode cJ6_remove 61 = .ok (.invokevirtual 64, 3) := dk_182 0 64 (dk_at dksJ6_remove_2 16 rfl rfl)
theorem dJ6_remove_64 : decode cJ6_remove 64 = .ok (.pop, 1) := dk_87 (dk_at dksJ6_remove_2 19 rfl rfl)
theorem dJ6_remove_65 : decode cJ6_remove 65 = .ok (.iconst 1, 1) := dk_4 (dk_at dksJ6_remove_2 20 rfl rfl)
theorem dJ6_remove_66 : decode cJ6_remove 66 = .ok (.ireturn, 1) := dk_172 (dk_at dksJ6_remove_2 21 rfl rfl)
theorem dJ6_remove_67 : decode cJ6_remove 67 = .ok (.aload_n 2, 1) := dk_44 (dk_at dksJ6_remove_2 22 rfl rfl)
theorem dJ6_remove_68 : decode cJ6_remove 68 = .ok (.getfield 36, 3) := dk_180 0 36 (dk_at dksJ6_remove_3 0 rfl rfl)
theorem dJ6_remove_71 : decode cJ6_remove 71 = .ok (.astore_n 2, 1) := dk_77 (dk_at dksJ6_remove_3 3 rfl rfl)
theorem dJ6_remove_72 : decode cJ6_remove 72 = .ok (.goto (-28), 3) := dk_167 255 228 (dk_at dksJ6_remove_3 4 rfl rfl)
theorem dJ6_remove_75 : decode cJ6_remove 75 = .ok (.iconst 0, 1) := dk_3 (dk_at dksJ6_remove_3 7 rfl rfl)
theorem dJ6_remove_76 : decode cJ6_remove 76 = .ok (.ireturn, 1) := dk_172 (dk_at dksJ6_remove_3 8 rfl rfl)
abbrev cJ6_unlink : ByteArray := prog_64_method_8_code
def yJ6_unlink : MethodName := ⟨RJ6, "unlink", "(Ljava/util/LinkedList$Node;)Ljava/lang/Object;"⟩
def dkwJ6_unlink_3 : List UInt8 := [180, 0, 7, 4, 100, 181, 0, 7, 42, 89, 180, 0, 33, 4, 96, 181, 0, 33, 44, 176]
abbrev dktJ6_unlink_3 : List UInt8 := dkwJ6_unlink_3 ++ []
def dkwJ6_unlink_2 : List UInt8 := [181, 0, 27, 167, 0, 14, 45, 25, 4, 181, 0, 30, 43, 1, 181, 0, 36, 43, 1, 181, 0, 39, 42, 89]
abbrev dktJ6_unlink_2 : List UInt8 := dkwJ6_unlink_2 ++ dktJ6_unlink_3
def dkwJ6_unlink_1 : List UInt8 := [181, 0, 18, 167, 0, 14, 25, 4, 45, 181, 0, 36, 43, 1, 181, 0, 30, 45, 199, 0, 12, 42, 25, 4]
abbrev dktJ6_unlink_1 : List UInt8 := dkwJ6_unlink_1 ++ dktJ6_unlink_2
def dkwJ6_unlink_0 : List UInt8 := [43, 180, 0, 39, 77, 43, 180, 0, 36, 78, 43, 180, 0, 30, 58, 4, 25, 4, 199, 0, 11, 42, 45]
abbrev dktJ6_unlink_0 : List UInt8 := dkwJ6_unlink_0 ++ dktJ6_unlink_1
theorem dksJ6_unlink_0 : cJ6_unlink.data.toList.drop 0 = dktJ6_unlink_0 := by decide +kernel
theorem dksJ6_unlink_1 : cJ6_unlink.data.toList.drop 23 = dktJ6_unlink_1 := dk_seg dksJ6_unlink_0 23 rfl rfl
theorem dksJ6_unlink_2 : cJ6_unlink.data.toList.drop 47 = dktJ6_unlink_2 := dk_seg dksJ6_unlink_1 24 rfl rfl
theorem dksJ6_unlink_3 : cJ6_unlink.data.toList.drop 71 = dktJ6_unlink_3 := dk_seg dksJ6_unlink_2 24 rfl rfl
theorem dJ6_unlink_0 : decode cJ6_unlink 0 = .ok (.aload_n 1, 1) := dk_43 (dk_at dksJ6_unlink_0 0 rfl rfl)
theorem dJ6_unlink_1 : decode cJ6_unlink 1 = .ok (.getfield 39, 3) := dk_180 0 39 (dk_at dksJ6_unlink_0 1 rfl rfl)
theorem dJ6_unlink_4 : decode cJ6_unlink 4 = .ok (.astore_n 2, 1) := dk_77 (dk_at dksJ6_unlink_0 4 rfl rfl)
theorem dJ6_unlink_5 : decode cJ6_unlink 5 = .ok (.aload_n 1, 1) := dk_43 (dk_at dksJ6_unlink_0 5 rfl rfl)
theorem dJ6_unlink_6 : decode cJ6_unlink 6 = .ok (.getfield 36, 3) := dk_180 0 36 (dk_at dksJ6_unlink_0 6 rfl rfl)
theorem dJ6_unlink_9 : decode cJ6_unlink 9 = .ok (.astore_n 3, 1) := dk_78 (dk_at dksJ6_unlink_0 9 rfl rfl)
theorem dJ6_unlink_10 : decode cJ6_unlink 10 = .ok (.aload_n 1, 1) := dk_43 (dk_at dksJ6_unlink_0 10 rfl rfl)
theorem dJ6_unlink_11 : decode cJ6_unlink 11 = .ok (.getfield 30, 3) := dk_180 0 30 (dk_at dksJ6_unlink_0 11 rfl rfl)
theorem dJ6_unlink_14 : decode cJ6_unlink 14 = .ok (.astore 4, 2) := dk_58 4 (dk_at dksJ6_unlink_0 14 rfl rfl)
theorem dJ6_unlink_16 : decode cJ6_unlink 16 = .ok (.aload 4, 2) := dk_25 4 (dk_at dksJ6_unlink_0 16 rfl rfl)
theorem dJ6_unlink_18 : decode cJ6_unlink 18 = .ok (.ifnonnull 11, 3) := dk_199 0 11 (dk_at dksJ6_unlink_0 18 rfl rfl)
theorem dJ6_unlink_21 : decode cJ6_unlink 21 = .ok (.aload_n 0, 1) := dk_42 (dk_at dksJ6_unlink_0 21 rfl rfl)
theorem dJ6_unlink_22 : decode cJ6_unlink 22 = .ok (.aload_n 3, 1) := dk_45 (dk_at dksJ6_unlink_0 22 rfl rfl)
theorem dJ6_unlink_23 : decode cJ6_unlink 23 = .ok (.putfield 18, 3) := dk_181 0 18 (dk_at dksJ6_unlink_1 0 rfl rfl)
theorem dJ6_unlink_26 : decode cJ6_unlink 26 = .ok (.goto 14, 3) := dk_167 0 14 (dk_at dksJ6_unlink_1 3 rfl rfl)
theorem dJ6_unlink_29 : decode cJ6_unlink 29 = .ok (.aload 4, 2) := dk_25 4 (dk_at dksJ6_unlink_1 6 rfl rfl)
theorem dJ6_unlink_31 : decode cJ6_unlink 31 = .ok (.aload_n 3, 1) := dk_45 (dk_at dksJ6_unlink_1 8 rfl rfl)
theorem dJ6_unlink_32 : decode cJ6_unlink 32 = .ok (.putfield 36, 3) := dk_181 0 36 (dk_at dksJ6_unlink_1 9 rfl rfl)
theorem dJ6_unlink_35 : decode cJ6_unlink 35 = .ok (.aload_n 1, 1) := dk_43 (dk_at dksJ6_unlink_1 12 rfl rfl)
theorem dJ6_unlink_36 : decode cJ6_unlink 36 = .ok (.aconst_null, 1) := dk_1 (dk_at dksJ6_unlink_1 13 rfl rfl)
theorem dJ6_unlink_37 : decode cJ6_unlink 37 = .ok (.putfield 30, 3) := dk_181 0 30 (dk_at dksJ6_unlink_1 14 rfl rfl)
theorem dJ6_unlink_40 : decode cJ6_unlink 40 = .ok (.aload_n 3, 1) := dk_45 (dk_at dksJ6_unlink_1 17 rfl rfl)
theorem dJ6_unlink_41 : decode cJ6_unlink 41 = .ok (.ifnonnull 12, 3) := dk_199 0 12 (dk_at dksJ6_unlink_1 18 rfl rfl)
theorem dJ6_unlink_44 : decode cJ6_unlink 44 = .ok (.aload_n 0, 1) := dk_42 (dk_at dksJ6_unlink_1 21 rfl rfl)
theorem dJ6_unlink_45 : decode cJ6_unlink 45 = .ok (.aload 4, 2) := dk_25 4 (dk_at dksJ6_unlink_1 22 rfl rfl)
theorem dJ6_unlink_47 : decode cJ6_unlink 47 = .ok (.putfield 27, 3) := dk_181 0 27 (dk_at dksJ6_unlink_2 0 rfl rfl)
theorem dJ6_unlink_50 : decode cJ6_unlink 50 = .ok (.goto 14, 3) := dk_167 0 14 (dk_at dksJ6_unlink_2 3 rfl rfl)
theorem dJ6_unlink_53 : decode cJ6_unlink 53 = .ok (.aload_n 3, 1) := dk_45 (dk_at dksJ6_unlink_2 6 rfl rfl)
theorem dJ6_unlink_54 : decode cJ6_unlink 54 = .ok (.aload 4, 2) := dk_25 4 (dk_at dksJ6_unlink_2 7 rfl rfl)
theorem dJ6_unlink_56 : decode cJ6_unlink 56 = .ok (.putfield 30, 3) := dk_181 0 30 (dk_at dksJ6_unlink_2 9 rfl rfl)
theorem dJ6_unlink_59 : decode cJ6_unlink 59 = .ok (.aload_n 1, 1) := dk_43 (dk_at dksJ6_unlink_2 12 rfl rfl)
theorem dJ6_unlink_60 : decode cJ6_unlink 60 = .ok (.aconst_null, 1) := dk_1 (dk_at dksJ6_unlink_2 13 rfl rfl)
theorem dJ6_unlink_61 : decode cJ6_unlink 61 = .ok (.putfield 36, 3) := dk_181 0 36 (dk_at dksJ6_unlink_2 14 rfl rfl)
theorem dJ6_unlink_64 : decode cJ6_unlink 64 = .ok (.aload_n 1, 1) := dk_43 (dk_at dksJ6_unlink_2 17 rfl rfl)
theorem dJ6_unlink_65 : decode cJ6_unlink 65 = .ok (.aconst_null, 1) := dk_1 (dk_at dksJ6_unlink_2 18 rfl rfl)
theorem dJ6_unlink_66 : decode cJ6_unlink 66 = .ok (.putfield 39, 3) := dk_181 0 39 (dk_at dksJ6_unlink_2 19 rfl rfl)
theorem dJ6_unlink_69 : decode cJ6_unlink 69 = .ok (.aload_n 0, 1) := dk_42 (dk_at dksJ6_unlink_2 22 rfl rfl)
theorem dJ6_unlink_70 : decode cJ6_unlink 70 = .ok (.dup, 1) := dk_89 (dk_at dksJ6_unlink_2 23 rfl rfl)
theorem dJ6_unlink_71 : decode cJ6_unlink 71 = .ok (.getfield 7, 3) := dk_180 0 7 (dk_at dksJ6_unlink_3 0 rfl rfl)
theorem dJ6_unlink_74 : decode cJ6_unlink 74 = .ok (.iconst 1, 1) := dk_4 (dk_at dksJ6_unlink_3 3 rfl rfl)
theorem dJ6_unlink_75 : decode cJ6_unlink 75 = .ok (.isub, 1) := dk_100 (dk_at dksJ6_unlink_3 4 rfl rfl)
theorem dJ6_unlink_76 : decode cJ6_unlink 76 = .ok (.putfield 7, 3) := dk_181 0 7 (dk_at dksJ6_unlink_3 5 rfl rfl)
theorem dJ6_unlink_79 : decode cJ6_unlink 79 = .ok (.aload_n 0, 1) := dk_42 (dk_at dksJ6_unlink_3 8 rfl rfl)
theorem dJ6_unlink_80 : decode cJ6_unlink 80 = .ok (.dup, 1) := dk_89 (dk_at dksJ6_unlink_3 9 rfl rfl)
theorem dJ6_unlink_81 : decode cJ6_unlink 81 = .ok (.getfield 33, 3) := dk_180 0 33 (dk_at dksJ6_unlink_3 10 rfl rfl)
theorem dJ6_unlink_84 : decode cJ6_unlink 84 = .ok (.iconst 1, 1) := dk_4 (dk_at dksJ6_unlink_3 13 rfl rfl)
theorem dJ6_unlink_85 : decode cJ6_unlink 85 = .ok (.iadd, 1) := dk_96 (dk_at dksJ6_unlink_3 14 rfl rfl)
theorem dJ6_unlink_86 : decode cJ6_unlink 86 = .ok (.putfield 33, 3) := dk_181 0 33 (dk_at dksJ6_unlink_3 15 rfl rfl)
theorem dJ6_unlink_89 : decode cJ6_unlink 89 = .ok (.aload_n 2, 1) := dk_44 (dk_at dksJ6_unlink_3 18 rfl rfl)
theorem dJ6_unlink_90 : decode cJ6_unlink 90 = .ok (.areturn, 1) := dk_176 (dk_at dksJ6_unlink_3 19 rfl rfl)
abbrev cJ6_addFirst : ByteArray := prog_64_method_13_code
def yJ6_addFirst : MethodName := ⟨RJ6, "addFirst", "(Ljava/lang/Object;)V"⟩
def dkwJ6_addFirst_0 : List UInt8 := [42, 43, 182, 0, 53, 177]
abbrev dktJ6_addFirst_0 : List UInt8 := dkwJ6_addFirst_0 ++ []
theorem dksJ6_addFirst_0 : cJ6_addFirst.data.toList.drop 0 = dktJ6_addFirst_0 := by decide +kernel
theorem dJ6_addFirst_0 : decode cJ6_addFirst 0 = .ok (.aload_n 0, 1) := dk_42 (dk_at dksJ6_addFirst_0 0 rfl rfl)
theorem dJ6_addFirst_1 : decode cJ6_addFirst 1 = .ok (.aload_n 1, 1) := dk_43 (dk_at dksJ6_addFirst_0 1 rfl rfl)
theorem dJ6_addFirst_2 : decode cJ6_addFirst 2 = .ok (.invokevirtual 53, 3) := dk_182 0 53 (dk_at dksJ6_addFirst_0 2 rfl rfl)
theorem dJ6_addFirst_5 : decode cJ6_addFirst 5 = .ok (.return_, 1) := dk_177 (dk_at dksJ6_addFirst_0 5 rfl rfl)
abbrev cJ6_linkFirst : ByteArray := prog_64_method_3_code
def yJ6_linkFirst : MethodName := ⟨RJ6, "linkFirst", "(Ljava/lang/Object;)V"⟩
def dkwJ6_linkFirst_2 : List UInt8 := [181, 0, 7, 42, 89, 180, 0, 33, 4, 96, 181, 0, 33, 177]
abbrev dktJ6_linkFirst_2 : List UInt8 := dkwJ6_linkFirst_2 ++ []
def dkwJ6_linkFirst_1 : List UInt8 := [199, 0, 11, 42, 45, 181, 0, 27, 167, 0, 8, 44, 45, 181, 0, 30, 42, 89, 180, 0, 7, 4, 96]
abbrev dktJ6_linkFirst_1 : List UInt8 := dkwJ6_linkFirst_1 ++ dktJ6_linkFirst_2
def dkwJ6_linkFirst_0 : List UInt8 := [42, 180, 0, 18, 77, 187, 0, 22, 89, 1, 43, 44, 183, 0, 24, 78, 42, 45, 181, 0, 18, 44]
abbrev dktJ6_linkFirst_0 : List UInt8 := dkwJ6_linkFirst_0 ++ dktJ6_linkFirst_1
theorem dksJ6_linkFirst_0 : cJ6_linkFirst.data.toList.drop 0 = dktJ6_linkFirst_0 := by decide +kernel
theorem dksJ6_linkFirst_1 : cJ6_linkFirst.data.toList.drop 22 = dktJ6_linkFirst_1 := dk_seg dksJ6_linkFirst_0 22 rfl rfl
theorem dksJ6_linkFirst_2 : cJ6_linkFirst.data.toList.drop 45 = dktJ6_linkFirst_2 := dk_seg dksJ6_linkFirst_1 23 rfl rfl
theorem dJ6_linkFirst_0 : decode cJ6_linkFirst 0 = .ok (.aload_n 0, 1) := dk_42 (dk_at dksJ6_linkFirst_0 0 rfl rfl)
theorem dJ6_linkFirst_1 : decode cJ6_linkFirst 1 = .ok (.getfield 18, 3) := dk_180 0 18 (dk_at dksJ6_linkFirst_0 1 rfl rfl)
theorem dJ6_linkFirst_4 : decode cJ6_linkFirst 4 = .ok (.astore_n 2, 1) := dk_77 (dk_at dksJ6_linkFirst_0 4 rfl rfl)
theorem dJ6_linkFirst_5 : decode cJ6_linkFirst 5 = .ok (.new 22, 3) := dk_187 0 22 (dk_at dksJ6_linkFirst_0 5 rfl rfl)
theorem dJ6_linkFirst_8 : decode cJ6_linkFirst 8 = .ok (.dup, 1) := dk_89 (dk_at dksJ6_linkFirst_0 8 rfl rfl)
theorem dJ6_linkFirst_9 : decode cJ6_linkFirst 9 = .ok (.aconst_null, 1) := dk_1 (dk_at dksJ6_linkFirst_0 9 rfl rfl)
theorem dJ6_linkFirst_10 : decode cJ6_linkFirst 10 = .ok (.aload_n 1, 1) := dk_43 (dk_at dksJ6_linkFirst_0 10 rfl rfl)
theorem dJ6_linkFirst_11 : decode cJ6_linkFirst 11 = .ok (.aload_n 2, 1) := dk_44 (dk_at dksJ6_linkFirst_0 11 rfl rfl)
theorem dJ6_linkFirst_12 : decode cJ6_linkFirst 12 = .ok (.invokespecial 24, 3) := dk_183 0 24 (dk_at dksJ6_linkFirst_0 12 rfl rfl)
theorem dJ6_linkFirst_15 : decode cJ6_linkFirst 15 = .ok (.astore_n 3, 1) := dk_78 (dk_at dksJ6_linkFirst_0 15 rfl rfl)
theorem dJ6_linkFirst_16 : decode cJ6_linkFirst 16 = .ok (.aload_n 0, 1) := dk_42 (dk_at dksJ6_linkFirst_0 16 rfl rfl)
theorem dJ6_linkFirst_17 : decode cJ6_linkFirst 17 = .ok (.aload_n 3, 1) := dk_45 (dk_at dksJ6_linkFirst_0 17 rfl rfl)
theorem dJ6_linkFirst_18 : decode cJ6_linkFirst 18 = .ok (.putfield 18, 3) := dk_181 0 18 (dk_at dksJ6_linkFirst_0 18 rfl rfl)
theorem dJ6_linkFirst_21 : decode cJ6_linkFirst 21 = .ok (.aload_n 2, 1) := dk_44 (dk_at dksJ6_linkFirst_0 21 rfl rfl)
theorem dJ6_linkFirst_22 : decode cJ6_linkFirst 22 = .ok (.ifnonnull 11, 3) := dk_199 0 11 (dk_at dksJ6_linkFirst_1 0 rfl rfl)
theorem dJ6_linkFirst_25 : decode cJ6_linkFirst 25 = .ok (.aload_n 0, 1) := dk_42 (dk_at dksJ6_linkFirst_1 3 rfl rfl)
theorem dJ6_linkFirst_26 : decode cJ6_linkFirst 26 = .ok (.aload_n 3, 1) := dk_45 (dk_at dksJ6_linkFirst_1 4 rfl rfl)
theorem dJ6_linkFirst_27 : decode cJ6_linkFirst 27 = .ok (.putfield 27, 3) := dk_181 0 27 (dk_at dksJ6_linkFirst_1 5 rfl rfl)
theorem dJ6_linkFirst_30 : decode cJ6_linkFirst 30 = .ok (.goto 8, 3) := dk_167 0 8 (dk_at dksJ6_linkFirst_1 8 rfl rfl)
theorem dJ6_linkFirst_33 : decode cJ6_linkFirst 33 = .ok (.aload_n 2, 1) := dk_44 (dk_at dksJ6_linkFirst_1 11 rfl rfl)
theorem dJ6_linkFirst_34 : decode cJ6_linkFirst 34 = .ok (.aload_n 3, 1) := dk_45 (dk_at dksJ6_linkFirst_1 12 rfl rfl)
theorem dJ6_linkFirst_35 : decode cJ6_linkFirst 35 = .ok (.putfield 30, 3) := dk_181 0 30 (dk_at dksJ6_linkFirst_1 13 rfl rfl)
theorem dJ6_linkFirst_38 : decode cJ6_linkFirst 38 = .ok (.aload_n 0, 1) := dk_42 (dk_at dksJ6_linkFirst_1 16 rfl rfl)
theorem dJ6_linkFirst_39 : decode cJ6_linkFirst 39 = .ok (.dup, 1) := dk_89 (dk_at dksJ6_linkFirst_1 17 rfl rfl)
theorem dJ6_linkFirst_40 : decode cJ6_linkFirst 40 = .ok (.getfield 7, 3) := dk_180 0 7 (dk_at dksJ6_linkFirst_1 18 rfl rfl)
theorem dJ6_linkFirst_43 : decode cJ6_linkFirst 43 = .ok (.iconst 1, 1) := dk_4 (dk_at dksJ6_linkFirst_1 21 rfl rfl)
theorem dJ6_linkFirst_44 : decode cJ6_linkFirst 44 = .ok (.iadd, 1) := dk_96 (dk_at dksJ6_linkFirst_1 22 rfl rfl)
theorem dJ6_linkFirst_45 : decode cJ6_linkFirst 45 = .ok (.putfield 7, 3) := dk_181 0 7 (dk_at dksJ6_linkFirst_2 0 rfl rfl)
theorem dJ6_linkFirst_48 : decode cJ6_linkFirst 48 = .ok (.aload_n 0, 1) := dk_42 (dk_at dksJ6_linkFirst_2 3 rfl rfl)
theorem dJ6_linkFirst_49 : decode cJ6_linkFirst 49 = .ok (.dup, 1) := dk_89 (dk_at dksJ6_linkFirst_2 4 rfl rfl)
theorem dJ6_linkFirst_50 : decode cJ6_linkFirst 50 = .ok (.getfield 33, 3) := dk_180 0 33 (dk_at dksJ6_linkFirst_2 5 rfl rfl)
theorem dJ6_linkFirst_53 : decode cJ6_linkFirst 53 = .ok (.iconst 1, 1) := dk_4 (dk_at dksJ6_linkFirst_2 8 rfl rfl)
theorem dJ6_linkFirst_54 : decode cJ6_linkFirst 54 = .ok (.iadd, 1) := dk_96 (dk_at dksJ6_linkFirst_2 9 rfl rfl)
theorem dJ6_linkFirst_55 : decode cJ6_linkFirst 55 = .ok (.putfield 33, 3) := dk_181 0 33 (dk_at dksJ6_linkFirst_2 10 rfl rfl)
theorem dJ6_linkFirst_58 : decode cJ6_linkFirst 58 = .ok (.return_, 1) := dk_177 (dk_at dksJ6_linkFirst_2 13 rfl rfl)
abbrev cJ6_removeLast : ByteArray := prog_64_method_12_code
def yJ6_removeLast : MethodName := ⟨RJ6, "removeLast", "()Ljava/lang/Object;"⟩
def dkwJ6_removeLast_0 : List UInt8 := [42, 180, 0, 27, 76, 43, 199, 0, 11, 187, 0, 43, 89, 183, 0, 45, 191, 42, 43, 182, 0, 50, 176]
abbrev dktJ6_removeLast_0 : List UInt8 := dkwJ6_removeLast_0 ++ []
theorem dksJ6_removeLast_0 : cJ6_removeLast.data.toList.drop 0 = dktJ6_removeLast_0 := by decide +kernel
theorem dJ6_removeLast_0 : decode cJ6_removeLast 0 = .ok (.aload_n 0, 1) := dk_42 (dk_at dksJ6_removeLast_0 0 rfl rfl)
theorem dJ6_removeLast_1 : decode cJ6_removeLast 1 = .ok (.getfield 27, 3) := dk_180 0 27 (dk_at dksJ6_removeLast_0 1 rfl rfl)
theorem dJ6_removeLast_4 : decode cJ6_removeLast 4 = .ok (.astore_n 1, 1) := dk_76 (dk_at dksJ6_removeLast_0 4 rfl rfl)
theorem dJ6_removeLast_5 : decode cJ6_removeLast 5 = .ok (.aload_n 1, 1) := dk_43 (dk_at dksJ6_removeLast_0 5 rfl rfl)
theorem dJ6_removeLast_6 : decode cJ6_removeLast 6 = .ok (.ifnonnull 11, 3) := dk_199 0 11 (dk_at dksJ6_removeLast_0 6 rfl rfl)
theorem dJ6_removeLast_9 : decode cJ6_removeLast 9 = .ok (.new 43, 3) := dk_187 0 43 (dk_at dksJ6_removeLast_0 9 rfl rfl)
theorem dJ6_removeLast_12 : decode cJ6_removeLast 12 = .ok (.dup, 1) := dk_89 (dk_at dksJ6_removeLast_0 12 rfl rfl)
theorem dJ6_removeLast_13 : decode cJ6_removeLast 13 = .ok (.invokespecial 45, 3) := dk_183 0 45 (dk_at dksJ6_removeLast_0 13 rfl rfl)
theorem dJ6_removeLast_16 : decode cJ6_removeLast 16 = .ok (.athrow, 1) := dk_191 (dk_at dksJ6_removeLast_0 16 rfl rfl)
theorem dJ6_removeLast_17 : decode cJ6_removeLast 17 = .ok (.aload_n 0, 1) := dk_42 (dk_at dksJ6_removeLast_0 17 rfl rfl)
theorem dJ6_removeLast_18 : decode cJ6_removeLast 18 = .ok (.aload_n 1, 1) := dk_43 (dk_at dksJ6_removeLast_0 18 rfl rfl)
theorem dJ6_removeLast_19 : decode cJ6_removeLast 19 = .ok (.invokevirtual 50, 3) := dk_182 0 50 (dk_at dksJ6_removeLast_0 19 rfl rfl)
theorem dJ6_removeLast_22 : decode cJ6_removeLast 22 = .ok (.areturn, 1) := dk_176 (dk_at dksJ6_removeLast_0 22 rfl rfl)
abbrev cJ6_unlinkLast : ByteArray := prog_64_method_7_code
def yJ6_unlinkLast : MethodName := ⟨RJ6, "unlinkLast", "(Ljava/util/LinkedList$Node;)Ljava/lang/Object;"⟩
def dkwJ6_unlinkLast_2 : List UInt8 := [180, 0, 7, 4, 100, 181, 0, 7, 42, 89, 180, 0, 33, 4, 96, 181, 0, 33, 44, 176]
abbrev dktJ6_unlinkLast_2 : List UInt8 := dkwJ6_unlinkLast_2 ++ []
def dkwJ6_unlinkLast_1 : List UInt8 := [181, 0, 27, 45, 199, 0, 11, 42, 1, 181, 0, 18, 167, 0, 8, 45, 1, 181, 0, 36, 42, 89]
abbrev dktJ6_unlinkLast_1 : List UInt8 := dkwJ6_unlinkLast_1 ++ dktJ6_unlinkLast_2
def dkwJ6_unlinkLast_0 : List UInt8 := [43, 180, 0, 39, 77, 43, 180, 0, 30, 78, 43, 1, 181, 0, 39, 43, 1, 181, 0, 30, 42, 45]
abbrev dktJ6_unlinkLast_0 : List UInt8 := dkwJ6_unlinkLast_0 ++ dktJ6_unlinkLast_1
theorem dksJ6_unlinkLast_0 : cJ6_unlinkLast.data.toList.drop 0 = dktJ6_unlinkLast_0 := by decide +kernel
theorem dksJ6_unlinkLast_1 : cJ6_unlinkLast.data.toList.drop 22 = dktJ6_unlinkLast_1 := dk_seg dksJ6_unlinkLast_0 22 rfl rfl
theorem dksJ6_unlinkLast_2 : cJ6_unlinkLast.data.toList.drop 44 = dktJ6_unlinkLast_2 := dk_seg dksJ6_unlinkLast_1 22 rfl rfl
theorem dJ6_unlinkLast_0 : decode cJ6_unlinkLast 0 = .ok (.aload_n 1, 1) := dk_43 (dk_at dksJ6_unlinkLast_0 0 rfl rfl)
theorem dJ6_unlinkLast_1 : decode cJ6_unlinkLast 1 = .ok (.getfield 39, 3) := dk_180 0 39 (dk_at dksJ6_unlinkLast_0 1 rfl rfl)
theorem dJ6_unlinkLast_4 : decode cJ6_unlinkLast 4 = .ok (.astore_n 2, 1) := dk_77 (dk_at dksJ6_unlinkLast_0 4 rfl rfl)
theorem dJ6_unlinkLast_5 : decode cJ6_unlinkLast 5 = .ok (.aload_n 1, 1) := dk_43 (dk_at dksJ6_unlinkLast_0 5 rfl rfl)
theorem dJ6_unlinkLast_6 : decode cJ6_unlinkLast 6 = .ok (.getfield 30, 3) := dk_180 0 30 (dk_at dksJ6_unlinkLast_0 6 rfl rfl)
theorem dJ6_unlinkLast_9 : decode cJ6_unlinkLast 9 = .ok (.astore_n 3, 1) := dk_78 (dk_at dksJ6_unlinkLast_0 9 rfl rfl)
theorem dJ6_unlinkLast_10 : decode cJ6_unlinkLast 10 = .ok (.aload_n 1, 1) := dk_43 (dk_at dksJ6_unlinkLast_0 10 rfl rfl)
theorem dJ6_unlinkLast_11 : decode cJ6_unlinkLast 11 = .ok (.aconst_null, 1) := dk_1 (dk_at dksJ6_unlinkLast_0 11 rfl rfl)
theorem dJ6_unlinkLast_12 : decode cJ6_unlinkLast 12 = .ok (.putfield 39, 3) := dk_181 0 39 (dk_at dksJ6_unlinkLast_0 12 rfl rfl)
theorem dJ6_unlinkLast_15 : decode cJ6_unlinkLast 15 = .ok (.aload_n 1, 1) := dk_43 (dk_at dksJ6_unlinkLast_0 15 rfl rfl)
theorem dJ6_unlinkLast_16 : decode cJ6_unlinkLast 16 = .ok (.aconst_null, 1) := dk_1 (dk_at dksJ6_unlinkLast_0 16 rfl rfl)
theorem dJ6_unlinkLast_17 : decode cJ6_unlinkLast 17 = .ok (.putfield 30, 3) := dk_181 0 30 (dk_at dksJ6_unlinkLast_0 17 rfl rfl)
theorem dJ6_unlinkLast_20 : decode cJ6_unlinkLast 20 = .ok (.aload_n 0, 1) := dk_42 (dk_at dksJ6_unlinkLast_0 20 rfl rfl)
theorem dJ6_unlinkLast_21 : decode cJ6_unlinkLast 21 = .ok (.aload_n 3, 1) := dk_45 (dk_at dksJ6_unlinkLast_0 21 rfl rfl)
theorem dJ6_unlinkLast_22 : decode cJ6_unlinkLast 22 = .ok (.putfield 27, 3) := dk_181 0 27 (dk_at dksJ6_unlinkLast_1 0 rfl rfl)
theorem dJ6_unlinkLast_25 : decode cJ6_unlinkLast 25 = .ok (.aload_n 3, 1) := dk_45 (dk_at dksJ6_unlinkLast_1 3 rfl rfl)
theorem dJ6_unlinkLast_26 : decode cJ6_unlinkLast 26 = .ok (.ifnonnull 11, 3) := dk_199 0 11 (dk_at dksJ6_unlinkLast_1 4 rfl rfl)
theorem dJ6_unlinkLast_29 : decode cJ6_unlinkLast 29 = .ok (.aload_n 0, 1) := dk_42 (dk_at dksJ6_unlinkLast_1 7 rfl rfl)
theorem dJ6_unlinkLast_30 : decode cJ6_unlinkLast 30 = .ok (.aconst_null, 1) := dk_1 (dk_at dksJ6_unlinkLast_1 8 rfl rfl)
theorem dJ6_unlinkLast_31 : decode cJ6_unlinkLast 31 = .ok (.putfield 18, 3) := dk_181 0 18 (dk_at dksJ6_unlinkLast_1 9 rfl rfl)
theorem dJ6_unlinkLast_34 : decode cJ6_unlinkLast 34 = .ok (.goto 8, 3) := dk_167 0 8 (dk_at dksJ6_unlinkLast_1 12 rfl rfl)
theorem dJ6_unlinkLast_37 : decode cJ6_unlinkLast 37 = .ok (.aload_n 3, 1) := dk_45 (dk_at dksJ6_unlinkLast_1 15 rfl rfl)
theorem dJ6_unlinkLast_38 : decode cJ6_unlinkLast 38 = .ok (.aconst_null, 1) := dk_1 (dk_at dksJ6_unlinkLast_1 16 rfl rfl)
theorem dJ6_unlinkLast_39 : decode cJ6_unlinkLast 39 = .ok (.putfield 36, 3) := dk_181 0 36 (dk_at dksJ6_unlinkLast_1 17 rfl rfl)
theorem dJ6_unlinkLast_42 : decode cJ6_unlinkLast 42 = .ok (.aload_n 0, 1) := dk_42 (dk_at dksJ6_unlinkLast_1 20 rfl rfl)
theorem dJ6_unlinkLast_43 : decode cJ6_unlinkLast 43 = .ok (.dup, 1) := dk_89 (dk_at dksJ6_unlinkLast_1 21 rfl rfl)
theorem dJ6_unlinkLast_44 : decode cJ6_unlinkLast 44 = .ok (.getfield 7, 3) := dk_180 0 7 (dk_at dksJ6_unlinkLast_2 0 rfl rfl)
theorem dJ6_unlinkLast_47 : decode cJ6_unlinkLast 47 = .ok (.iconst 1, 1) := dk_4 (dk_at dksJ6_unlinkLast_2 3 rfl rfl)
theorem dJ6_unlinkLast_48 : decode cJ6_unlinkLast 48 = .ok (.isub, 1) := dk_100 (dk_at dksJ6_unlinkLast_2 4 rfl rfl)
theorem dJ6_unlinkLast_49 : decode cJ6_unlinkLast 49 = .ok (.putfield 7, 3) := dk_181 0 7 (dk_at dksJ6_unlinkLast_2 5 rfl rfl)
theorem dJ6_unlinkLast_52 : decode cJ6_unlinkLast 52 = .ok (.aload_n 0, 1) := dk_42 (dk_at dksJ6_unlinkLast_2 8 rfl rfl)
theorem dJ6_unlinkLast_53 : decode cJ6_unlinkLast 53 = .ok (.dup, 1) := dk_89 (dk_at dksJ6_unlinkLast_2 9 rfl rfl)
theorem dJ6_unlinkLast_54 : decode cJ6_unlinkLast 54 = .ok (.getfield 33, 3) := dk_180 0 33 (dk_at dksJ6_unlinkLast_2 10 rfl rfl)
theorem dJ6_unlinkLast_57 : decode cJ6_unlinkLast 57 = .ok (.iconst 1, 1) := dk_4 (dk_at dksJ6_unlinkLast_2 13 rfl rfl)
theorem dJ6_unlinkLast_58 : decode cJ6_unlinkLast 58 = .ok (.iadd, 1) := dk_96 (dk_at dksJ6_unlinkLast_2 14 rfl rfl)
theorem dJ6_unlinkLast_59 : decode cJ6_unlinkLast 59 = .ok (.putfield 33, 3) := dk_181 0 33 (dk_at dksJ6_unlinkLast_2 15 rfl rfl)
theorem dJ6_unlinkLast_62 : decode cJ6_unlinkLast 62 = .ok (.aload_n 2, 1) := dk_44 (dk_at dksJ6_unlinkLast_2 18 rfl rfl)
theorem dJ6_unlinkLast_63 : decode cJ6_unlinkLast 63 = .ok (.areturn, 1) := dk_176 (dk_at dksJ6_unlinkLast_2 19 rfl rfl)
