set_option maxRecDepth 100000
abbrev cX1_init : ByteArray := prog_1_method_12_code
def yX1_init : MethodName := ⟨RX1, "<init>", "()V"⟩
def dkwX1_init_2 : List UInt8 := [181, 0, 78, 177]
abbrev dktX1_init_2 : List UInt8 := dkwX1_init_2 ++ []
def dkwX1_init_1 : List UInt8 := [181, 0, 61, 42, 187, 0, 65, 89, 183, 0, 67, 181, 0, 68, 42, 18, 72, 181, 0, 74, 42, 2]
abbrev dktX1_init_1 : List UInt8 := dkwX1_init_1 ++ dktX1_init_2
def dkwX1_init_0 : List UInt8 := [42, 183, 0, 48, 42, 187, 0, 51, 89, 183, 0, 53, 181, 0, 54, 42, 187, 0, 58, 89, 183, 0, 60]
abbrev dktX1_init_0 : List UInt8 := dkwX1_init_0 ++ dktX1_init_1
theorem dksX1_init_0 : cX1_init.data.toList.drop 0 = dktX1_init_0 := by decide +kernel
theorem dksX1_init_1 : cX1_init.data.toList.drop 23 = dktX1_init_1 := dk_seg dksX1_init_0 23 rfl rfl
theorem dksX1_init_2 : cX1_init.data.toList.drop 45 = dktX1_init_2 := dk_seg dksX1_init_1 22 rfl rfl
theorem dX1_init_0 : decode cX1_init 0 = .ok (.aload_n 0, 1) := dk_42 (dk_at dksX1_init_0 0 rfl rfl)
theorem dX1_init_1 : decode cX1_init 1 = .ok (.invokespecial 48, 3) := dk_183 0 48 (dk_at dksX1_init_0 1 rfl rfl)
theorem dX1_init_4 : decode cX1_init 4 = .ok (.aload_n 0, 1) := dk_42 (dk_at dksX1_init_0 4 rfl rfl)
theorem dX1_init_5 : decode cX1_init 5 = .ok (.new 51, 3) := dk_187 0 51 (dk_at dksX1_init_0 5 rfl rfl)
theorem dX1_init_8 : decode cX1_init 8 = .ok (.dup, 1) := dk_89 (dk_at dksX1_init_0 8 rfl rfl)
theorem dX1_init_9 : decode cX1_init 9 = .ok (.invokespecial 53, 3) := dk_183 0 53 (dk_at dksX1_init_0 9 rfl rfl)
theorem dX1_init_12 : decode cX1_init 12 = .ok (.putfield 54, 3) := dk_181 0 54 (dk_at dksX1_init_0 12 rfl rfl)
theorem dX1_init_15 : decode cX1_init 15 = .ok (.aload_n 0, 1) := dk_42 (dk_at dksX1_init_0 15 rfl rfl)
theorem dX1_init_16 : decode cX1_init 16 = .ok (.new 58, 3) := dk_187 0 58 (dk_at dksX1_init_0 16 rfl rfl)
theorem dX1_init_19 : decode cX1_init 19 = .ok (.dup, 1) := dk_89 (dk_at dksX1_init_0 19 rfl rfl)
theorem dX1_init_20 : decode cX1_init 20 = .ok (.invokespecial 60, 3) := dk_183 0 60 (dk_at dksX1_init_0 20 rfl rfl)
theorem dX1_init_23 : decode cX1_init 23 = .ok (.putfield 61, 3) := dk_181 0 61 (dk_at dksX1_init_1 0 rfl rfl)
theorem dX1_init_26 : decode cX1_init 26 = .ok (.aload_n 0, 1) := dk_42 (dk_at dksX1_init_1 3 rfl rfl)
theorem dX1_init_27 : decode cX1_init 27 = .ok (.new 65, 3) := dk_187 0 65 (dk_at dksX1_init_1 4 rfl rfl)
theorem dX1_init_30 : decode cX1_init 30 = .ok (.dup, 1) := dk_89 (dk_at dksX1_init_1 7 rfl rfl)
theorem dX1_init_31 : decode cX1_init 31 = .ok (.invokespecial 67, 3) := dk_183 0 67 (dk_at dksX1_init_1 8 rfl rfl)
theorem dX1_init_34 : decode cX1_init 34 = .ok (.putfield 68, 3) := dk_181 0 68 (dk_at dksX1_init_1 11 rfl rfl)
theorem dX1_init_37 : decode cX1_init 37 = .ok (.aload_n 0, 1) := dk_42 (dk_at dksX1_init_1 14 rfl rfl)
theorem dX1_init_38 : decode cX1_init 38 = .ok (.ldc 72, 2) := dk_18 72 (dk_at dksX1_init_1 15 rfl rfl)
theorem dX1_init_40 : decode cX1_init 40 = .ok (.putfield 74, 3) := dk_181 0 74 (dk_at dksX1_init_1 17 rfl rfl)
theorem dX1_init_43 : decode cX1_init 43 = .ok (.aload_n 0, 1) := dk_42 (dk_at dksX1_init_1 20 rfl rfl)
theorem dX1_init_44 : decode cX1_init 44 = .ok (.iconst (-1), 1) := dk_2 (dk_at dksX1_init_1 21 rfl rfl)
theorem dX1_init_45 : decode cX1_init 45 = .ok (.putfield 78, 3) := dk_181 0 78 (dk_at dksX1_init_2 0 rfl rfl)
theorem dX1_init_48 : decode cX1_init 48 = .ok (.return_, 1) := dk_177 (dk_at dksX1_init_2 3 rfl rfl)
abbrev cX1_through : ByteArray := prog_1_method_24_code
def yX1_through : MethodName := ⟨RX1, "through", "(Z)I"⟩
def dkwX1_through_1 : List UInt8 := [180, 0, 54, 182, 0, 144, 172]
abbrev dktX1_through_1 : List UInt8 := dkwX1_through_1 ++ []
def dkwX1_through_0 : List UInt8 := [187, 0, 51, 89, 42, 180, 0, 54, 183, 0, 96, 77, 44, 27, 181, 0, 140, 42, 44, 182, 0, 105, 42]
abbrev dktX1_through_0 : List UInt8 := dkwX1_through_0 ++ dktX1_through_1
theorem dksX1_through_0 : cX1_through.data.toList.drop 0 = dktX1_through_0 := by decide +kernel
theorem dksX1_through_1 : cX1_through.data.toList.drop 23 = dktX1_through_1 := dk_seg dksX1_through_0 23 rfl rfl
theorem dX1_through_0 : decode cX1_through 0 = .ok (.new 51, 3) := dk_187 0 51 (dk_at dksX1_through_0 0 rfl rfl)
theorem dX1_through_3 : decode cX1_through 3 = .ok (.dup, 1) := dk_89 (dk_at dksX1_through_0 3 rfl rfl)
theorem dX1_through_4 : decode cX1_through 4 = .ok (.aload_n 0, 1) := dk_42 (dk_at dksX1_through_0 4 rfl rfl)
theorem dX1_through_5 : decode cX1_through 5 = .ok (.getfield 54, 3) := dk_180 0 54 (dk_at dksX1_through_0 5 rfl rfl)
theorem dX1_through_8 : decode cX1_through 8 = .ok (.invokespecial 96, 3) := dk_183 0 96 (dk_at dksX1_through_0 8 rfl rfl)
theorem dX1_through_11 : decode cX1_through 11 = .ok (.astore_n 2, 1) := dk_77 (dk_at dksX1_through_0 11 rfl rfl)
theorem dX1_through_12 : decode cX1_through 12 = .ok (.aload_n 2, 1) := dk_44 (dk_at dksX1_through_0 12 rfl rfl)
theorem dX1_through_13 : decode cX1_through 13 = .ok (.iload_n 1, 1) := dk_27 (dk_at dksX1_through_0 13 rfl rfl)
theorem dX1_through_14 : decode cX1_through 14 = .ok (.putfield 140, 3) := dk_181 0 140 (dk_at dksX1_through_0 14 rfl rfl)
theorem dX1_through_17 : decode cX1_through 17 = .ok (.aload_n 0, 1) := dk_42 (dk_at dksX1_through_0 17 rfl rfl)
theorem dX1_through_18 : decode cX1_through 18 = .ok (.aload_n 2, 1) := dk_44 (dk_at dksX1_through_0 18 rfl rfl)
theorem dX1_through_19 : decode cX1_through 19 = .ok (.invokevirtual 105, 3) := dk_182 0 105 (dk_at dksX1_through_0 19 rfl rfl)
theorem dX1_through_22 : decode cX1_through 22 = .ok (.aload_n 0, 1) := dk_42 (dk_at dksX1_through_0 22 rfl rfl)
theorem dX1_through_23 : decode cX1_through 23 = .ok (.getfield 54, 3) := dk_180 0 54 (dk_at dksX1_through_1 0 rfl rfl)
theorem dX1_through_26 : decode cX1_through 26 = .ok (.invokevirtual 144, 3) := dk_182 0 144 (dk_at dksX1_through_1 3 rfl rfl)
theorem dX1_through_29 : decode cX1_through 29 = .ok (.ireturn, 1) := dk_172 (dk_at dksX1_through_1 6 rfl rfl)
abbrev cX1_size : ByteArray := prog_1_method_6_code
def yX1_size : MethodName := ⟨RX1, "size", "(I)I"⟩
def dkwX1_size_0 : List UInt8 := [3, 60, 26, 61, 28, 153, 0, 15, 132, 1, 1, 28, 28, 4, 100, 126, 61, 167, 255, 243, 27, 172]
abbrev dktX1_size_0 : List UInt8 := dkwX1_size_0 ++ []
theorem dksX1_size_0 : cX1_size.data.toList.drop 0 = dktX1_size_0 := by decide +kernel
theorem dX1_size_0 : decode cX1_size 0 = .ok (.iconst 0, 1) := dk_3 (dk_at dksX1_size_0 0 rfl rfl)
theorem dX1_size_1 : decode cX1_size 1 = .ok (.istore_n 1, 1) := dk_60 (dk_at dksX1_size_0 1 rfl rfl)
theorem dX1_size_2 : decode cX1_size 2 = .ok (.iload_n 0, 1) := dk_26 (dk_at dksX1_size_0 2 rfl rfl)
theorem dX1_size_3 : decode cX1_size 3 = .ok (.istore_n 2, 1) := dk_61 (dk_at dksX1_size_0 3 rfl rfl)
theorem dX1_size_4 : decode cX1_size 4 = .ok (.iload_n 2, 1) := dk_28 (dk_at dksX1_size_0 4 rfl rfl)
theorem dX1_size_5 : decode cX1_size 5 = .ok (.ifCond .eq 15, 3) := dk_153 0 15 (dk_at dksX1_size_0 5 rfl rfl)
theorem dX1_size_8 : decode cX1_size 8 = .ok (.iinc 1 1, 3) := dk_132 1 1 (dk_at dksX1_size_0 8 rfl rfl)
theorem dX1_size_11 : decode cX1_size 11 = .ok (.iload_n 2, 1) := dk_28 (dk_at dksX1_size_0 11 rfl rfl)
theorem dX1_size_12 : decode cX1_size 12 = .ok (.iload_n 2, 1) := dk_28 (dk_at dksX1_size_0 12 rfl rfl)
theorem dX1_size_13 : decode cX1_size 13 = .ok (.iconst 1, 1) := dk_4 (dk_at dksX1_size_0 13 rfl rfl)
theorem dX1_size_14 : decode cX1_size 14 = .ok (.isub, 1) := dk_100 (dk_at dksX1_size_0 14 rfl rfl)
theorem dX1_size_15 : decode cX1_size 15 = .ok (.iand, 1) := dk_126 (dk_at dksX1_size_0 15 rfl rfl)
theorem dX1_size_16 : decode cX1_size 16 = .ok (.istore_n 2, 1) := dk_61 (dk_at dksX1_size_0 16 rfl rfl)
theorem dX1_size_17 : decode cX1_size 17 = .ok (.goto (-13), 3) := dk_167 255 243 (dk_at dksX1_size_0 17 rfl rfl)
theorem dX1_size_20 : decode cX1_size 20 = .ok (.iload_n 1, 1) := dk_27 (dk_at dksX1_size_0 20 rfl rfl)
theorem dX1_size_21 : decode cX1_size 21 = .ok (.ireturn, 1) := dk_172 (dk_at dksX1_size_0 21 rfl rfl)
abbrev cX1_remember : ByteArray := prog_1_method_13_code
def yX1_remember : MethodName := ⟨RX1, "remember", "(LWordCache$Machine;)V"⟩
def dkwX1_remember_1 : List UInt8 := [42, 180, 0, 61, 42, 180, 0, 54, 185, 0, 92, 2, 0, 42, 43, 181, 0, 54, 177]
abbrev dktX1_remember_1 : List UInt8 := dkwX1_remember_1 ++ []
def dkwX1_remember_0 : List UInt8 := [42, 180, 0, 61, 185, 0, 82, 1, 0, 16, 8, 160, 0, 13, 42, 180, 0, 61, 185, 0, 88, 1, 0, 87]
abbrev dktX1_remember_0 : List UInt8 := dkwX1_remember_0 ++ dktX1_remember_1
theorem dksX1_remember_0 : cX1_remember.data.toList.drop 0 = dktX1_remember_0 := by decide +kernel
theorem dksX1_remember_1 : cX1_remember.data.toList.drop 24 = dktX1_remember_1 := dk_seg dksX1_remember_0 24 rfl rfl
theorem dX1_remember_0 : decode cX1_remember 0 = .ok (.aload_n 0, 1) := dk_42 (dk_at dksX1_remember_0 0 rfl rfl)
theorem dX1_remember_1 : decode cX1_remember 1 = .ok (.getfield 61, 3) := dk_180 0 61 (dk_at dksX1_remember_0 1 rfl rfl)
theorem dX1_remember_4 : decode cX1_remember 4 = .ok (.invokeinterface 82 1, 5) := by decide +kernel
theorem dX1_remember_9 : decode cX1_remember 9 = .ok (.bipush 8, 2) := dk_16 8 (dk_at dksX1_remember_0 9 rfl rfl)
theorem dX1_remember_11 : decode cX1_remember 11 = .ok (.if_icmp .ne 13, 3) := dk_160 0 13 (dk_at dksX1_remember_0 11 rfl rfl)
theorem dX1_remember_14 : decode cX1_remember 14 = .ok (.aload_n 0, 1) := dk_42 (dk_at dksX1_remember_0 14 rfl rfl)
theorem dX1_remember_15 : decode cX1_remember 15 = .ok (.getfield 61, 3) := dk_180 0 61 (dk_at dksX1_remember_0 15 rfl rfl)
theorem dX1_remember_18 : decode cX1_remember 18 = .ok (.invokeinterface 88 1, 5) := by decide +kernel
theorem dX1_remember_23 : decode cX1_remember 23 = .ok (.pop, 1) := dk_87 (dk_at dksX1_remember_0 23 rfl rfl)
theorem dX1_remember_24 : decode cX1_remember 24 = .ok (.aload_n 0, 1) := dk_42 (dk_at dksX1_remember_1 0 rfl rfl)
theorem dX1_remember_25 : decode cX1_remember 25 = .ok (.getfield 61, 3) := dk_180 0 61 (dk_at dksX1_remember_1 1 rfl rfl)
theorem dX1_remember_28 : decode cX1_remember 28 = .ok (.aload_n 0, 1) := dk_42 (dk_at dksX1_remember_1 4 rfl rfl)
theorem dX1_remember_29 : decode cX1_remember 29 = .ok (.getfield 54, 3) := dk_180 0 54 (dk_at dksX1_remember_1 5 rfl rfl)
theorem dX1_remember_32 : decode cX1_remember 32 = .ok (.invokeinterface 92 2, 5) := by decide +kernel
theorem dX1_remember_37 : decode cX1_remember 37 = .ok (.aload_n 0, 1) := dk_42 (dk_at dksX1_remember_1 13 rfl rfl)
theorem dX1_remember_38 : decode cX1_remember 38 = .ok (.aload_n 1, 1) := dk_43 (dk_at dksX1_remember_1 14 rfl rfl)
theorem dX1_remember_39 : decode cX1_remember 39 = .ok (.putfield 54, 3) := dk_181 0 54 (dk_at dksX1_remember_1 15 rfl rfl)
theorem dX1_remember_42 : decode cX1_remember 42 = .ok (.return_, 1) := dk_177 (dk_at dksX1_remember_1 18 rfl rfl)
abbrev cX1_meanWord : ByteArray := prog_1_method_49_code
def yX1_meanWord : MethodName := ⟨RX1, "meanWord", "()D"⟩
def dkwX1_meanWord_0 : List UInt8 := [42, 180, 0, 54, 182, 1, 88, 135, 20, 1, 91, 111, 175]
abbrev dktX1_meanWord_0 : List UInt8 := dkwX1_meanWord_0 ++ []
theorem dksX1_meanWord_0 : cX1_meanWord.data.toList.drop 0 = dktX1_meanWord_0 := by decide +kernel
theorem dX1_meanWord_0 : decode cX1_meanWord 0 = .ok (.aload_n 0, 1) := dk_42 (dk_at dksX1_meanWord_0 0 rfl rfl)
theorem dX1_meanWord_1 : decode cX1_meanWord 1 = .ok (.getfield 54, 3) := dk_180 0 54 (dk_at dksX1_meanWord_0 1 rfl rfl)
theorem dX1_meanWord_4 : decode cX1_meanWord 4 = .ok (.invokevirtual 344, 3) := dk_182 1 88 (dk_at dksX1_meanWord_0 4 rfl rfl)
theorem dX1_meanWord_7 : decode cX1_meanWord 7 = .ok (.i2d, 1) := dk_135 (dk_at dksX1_meanWord_0 7 rfl rfl)
theorem dX1_meanWord_8 : decode cX1_meanWord 8 = .ok (.ldc2_w 347, 3) := dk_20 1 91 (dk_at dksX1_meanWord_0 8 rfl rfl)
theorem dX1_meanWord_11 : decode cX1_meanWord 11 = .ok (.ddiv, 1) := dk_111 (dk_at dksX1_meanWord_0 11 rfl rfl)
theorem dX1_meanWord_12 : decode cX1_meanWord 12 = .ok (.dreturn, 1) := dk_175 (dk_at dksX1_meanWord_0 12 rfl rfl)
abbrev cX1_isBalanced : ByteArray := prog_1_method_53_code
def yX1_isBalanced : MethodName := ⟨RX1, "isBalanced", "()Z"⟩
def dkwX1_isBalanced_0 : List UInt8 := [42, 180, 0, 54, 182, 1, 138, 172]
abbrev dktX1_isBalanced_0 : List UInt8 := dkwX1_isBalanced_0 ++ []
theorem dksX1_isBalanced_0 : cX1_isBalanced.data.toList.drop 0 = dktX1_isBalanced_0 := by decide +kernel
theorem dX1_isBalanced_0 : decode cX1_isBalanced 0 = .ok (.aload_n 0, 1) := dk_42 (dk_at dksX1_isBalanced_0 0 rfl rfl)
theorem dX1_isBalanced_1 : decode cX1_isBalanced 1 = .ok (.getfield 54, 3) := dk_180 0 54 (dk_at dksX1_isBalanced_0 1 rfl rfl)
theorem dX1_isBalanced_4 : decode cX1_isBalanced 4 = .ok (.invokevirtual 394, 3) := dk_182 1 138 (dk_at dksX1_isBalanced_0 4 rfl rfl)
theorem dX1_isBalanced_7 : decode cX1_isBalanced 7 = .ok (.ireturn, 1) := dk_172 (dk_at dksX1_isBalanced_0 7 rfl rfl)
abbrev cX1_save : ByteArray := prog_1_method_55_code
def yX1_save : MethodName := ⟨RX1, "save", "()I"⟩
def dkwX1_save_0 : List UInt8 := [42, 42, 180, 0, 54, 181, 1, 145, 42, 180, 0, 54, 180, 0, 253, 172]
abbrev dktX1_save_0 : List UInt8 := dkwX1_save_0 ++ []
theorem dksX1_save_0 : cX1_save.data.toList.drop 0 = dktX1_save_0 := by decide +kernel
theorem dX1_save_0 : decode cX1_save 0 = .ok (.aload_n 0, 1) := dk_42 (dk_at dksX1_save_0 0 rfl rfl)
theorem dX1_save_1 : decode cX1_save 1 = .ok (.aload_n 0, 1) := dk_42 (dk_at dksX1_save_0 1 rfl rfl)
theorem dX1_save_2 : decode cX1_save 2 = .ok (.getfield 54, 3) := dk_180 0 54 (dk_at dksX1_save_0 2 rfl rfl)
theorem dX1_save_5 : decode cX1_save 5 = .ok (.putfield 401, 3) := dk_181 1 145 (dk_at dksX1_save_0 5 rfl rfl)
theorem dX1_save_8 : decode cX1_save 8 = .ok (.aload_n 0, 1) := dk_42 (dk_at dksX1_save_0 8 rfl rfl)
theorem dX1_save_9 : decode cX1_save 9 = .ok (.getfield 54, 3) := dk_180 0 54 (dk_at dksX1_save_0 9 rfl rfl)
theorem dX1_save_12 : decode cX1_save 12 = .ok (.getfield 253, 3) := dk_180 0 253 (dk_at dksX1_save_0 12 rfl rfl)
theorem dX1_save_15 : decode cX1_save 15 = .ok (.ireturn, 1) := dk_172 (dk_at dksX1_save_0 15 rfl rfl)
abbrev cX1_read : ByteArray := prog_1_method_15_code
def yX1_read : MethodName := ⟨RX1, "read", "(I)I"⟩
def dkwX1_read_0 : List UInt8 := [42, 187, 0, 100, 89, 18, 115, 27, 3, 183, 0, 117, 182, 0, 120, 172]
abbrev dktX1_read_0 : List UInt8 := dkwX1_read_0 ++ []
theorem dksX1_read_0 : cX1_read.data.toList.drop 0 = dktX1_read_0 := by decide +kernel
theorem dX1_read_0 : decode cX1_read 0 = .ok (.aload_n 0, 1) := dk_42 (dk_at dksX1_read_0 0 rfl rfl)
theorem dX1_read_1 : decode cX1_read 1 = .ok (.new 100, 3) := dk_187 0 100 (dk_at dksX1_read_0 1 rfl rfl)
theorem dX1_read_4 : decode cX1_read 4 = .ok (.dup, 1) := dk_89 (dk_at dksX1_read_0 4 rfl rfl)
theorem dX1_read_5 : decode cX1_read 5 = .ok (.ldc 115, 2) := dk_18 115 (dk_at dksX1_read_0 5 rfl rfl)
theorem dX1_read_7 : decode cX1_read 7 = .ok (.iload_n 1, 1) := dk_27 (dk_at dksX1_read_0 7 rfl rfl)
theorem dX1_read_8 : decode cX1_read 8 = .ok (.iconst 0, 1) := dk_3 (dk_at dksX1_read_0 8 rfl rfl)
theorem dX1_read_9 : decode cX1_read 9 = .ok (.invokespecial 117, 3) := dk_183 0 117 (dk_at dksX1_read_0 9 rfl rfl)
theorem dX1_read_12 : decode cX1_read 12 = .ok (.invokevirtual 120, 3) := dk_182 0 120 (dk_at dksX1_read_0 12 rfl rfl)
theorem dX1_read_15 : decode cX1_read 15 = .ok (.ireturn, 1) := dk_172 (dk_at dksX1_read_0 15 rfl rfl)
abbrev cX1_done : ByteArray := prog_1_method_14_code
def yX1_done : MethodName := ⟨RX1, "done", "(LWordCache$Order;)I"⟩
def dkwX1_done_1 : List UInt8 := [172, 78, 42, 45, 181, 0, 108, 187, 0, 112, 89, 183, 0, 114, 191]
abbrev dktX1_done_1 : List UInt8 := dkwX1_done_1 ++ []
def dkwX1_done_0 : List UInt8 := [187, 0, 51, 89, 42, 180, 0, 54, 183, 0, 96, 77, 43, 44, 182, 0, 99, 62, 42, 44, 182, 0, 105, 29]
abbrev dktX1_done_0 : List UInt8 := dkwX1_done_0 ++ dktX1_done_1
theorem dksX1_done_0 : cX1_done.data.toList.drop 0 = dktX1_done_0 := by decide +kernel
theorem dksX1_done_1 : cX1_done.data.toList.drop 24 = dktX1_done_1 := dk_seg dksX1_done_0 24 rfl rfl
theorem dX1_done_0 : decode cX1_done 0 = .ok (.new 51, 3) := dk_187 0 51 (dk_at dksX1_done_0 0 rfl rfl)
theorem dX1_done_3 : decode cX1_done 3 = .ok (.dup, 1) := dk_89 (dk_at dksX1_done_0 3 rfl rfl)
theorem dX1_done_4 : decode cX1_done 4 = .ok (.aload_n 0, 1) := dk_42 (dk_at dksX1_done_0 4 rfl rfl)
theorem dX1_done_5 : decode cX1_done 5 = .ok (.getfield 54, 3) := dk_180 0 54 (dk_at dksX1_done_0 5 rfl rfl)
theorem dX1_done_8 : decode cX1_done 8 = .ok (.invokespecial 96, 3) := dk_183 0 96 (dk_at dksX1_done_0 8 rfl rfl)
theorem dX1_done_11 : decode cX1_done 11 = .ok (.astore_n 2, 1) := dk_77 (dk_at dksX1_done_0 11 rfl rfl)
theorem dX1_done_12 : decode cX1_done 12 = .ok (.aload_n 1, 1) := dk_43 (dk_at dksX1_done_0 12 rfl rfl)
theorem dX1_done_13 : decode cX1_done 13 = .ok (.aload_n 2, 1) := dk_44 (dk_at dksX1_done_0 13 rfl rfl)
theorem dX1_done_14 : decode cX1_done 14 = .ok (.invokevirtual 99, 3) := dk_182 0 99 (dk_at dksX1_done_0 14 rfl rfl)
theorem dX1_done_17 : decode cX1_done 17 = .ok (.istore_n 3, 1) := dk_62 (dk_at dksX1_done_0 17 rfl rfl)
theorem dX1_done_18 : decode cX1_done 18 = .ok (.aload_n 0, 1) := dk_42 (dk_at dksX1_done_0 18 rfl rfl)
theorem dX1_done_19 : decode cX1_done 19 = .ok (.aload_n 2, 1) := dk_44 (dk_at dksX1_done_0 19 rfl rfl)
theorem dX1_done_20 : decode cX1_done 20 = .ok (.invokevirtual 105, 3) := dk_182 0 105 (dk_at dksX1_done_0 20 rfl rfl)
theorem dX1_done_23 : decode cX1_done 23 = .ok (.iload_n 3, 1) := dk_29 (dk_at dksX1_done_0 23 rfl rfl)
theorem dX1_done_24 : decode cX1_done 24 = .ok (.ireturn, 1) := dk_172 (dk_at dksX1_done_1 0 rfl rfl)
theorem dX1_done_25 : decode cX1_done 25 = .ok (.astore_n 3, 1) := dk_78 (dk_at dksX1_done_1 1 rfl rfl)
theorem dX1_done_26 : decode cX1_done 26 = .ok (.aload_n 0, 1) := dk_42 (dk_at dksX1_done_1 2 rfl rfl)
theorem dX1_done_27 : decode cX1_done 27 = .ok (.aload_n 3, 1) := dk_45 (dk_at dksX1_done_1 3 rfl rfl)
theorem dX1_done_28 : decode cX1_done 28 = .ok (.putfield 108, 3) := dk_181 0 108 (dk_at dksX1_done_1 4 rfl rfl)
theorem dX1_done_31 : decode cX1_done 31 = .ok (.new 112, 3) := dk_187 0 112 (dk_at dksX1_done_1 7 rfl rfl)
theorem dX1_done_34 : decode cX1_done 34 = .ok (.dup, 1) := dk_89 (dk_at dksX1_done_1 10 rfl rfl)
theorem dX1_done_35 : decode cX1_done 35 = .ok (.invokespecial 114, 3) := dk_183 0 114 (dk_at dksX1_done_1 11 rfl rfl)
theorem dX1_done_38 : decode cX1_done 38 = .ok (.athrow, 1) := dk_191 (dk_at dksX1_done_1 14 rfl rfl)
abbrev cX1_checkAddress : ByteArray := prog_1_method_9_code
def yX1_checkAddress : MethodName := ⟨RX1, "checkAddress", "(I)V"⟩
def dkwX1_checkAddress_0 : List UInt8 := [26, 3, 16, 63, 184, 0, 32, 177]
abbrev dktX1_checkAddress_0 : List UInt8 := dkwX1_checkAddress_0 ++ []
theorem dksX1_checkAddress_0 : cX1_checkAddress.data.toList.drop 0 = dktX1_checkAddress_0 := by decide +kernel
theorem dX1_checkAddress_0 : decode cX1_checkAddress 0 = .ok (.iload_n 0, 1) := dk_26 (dk_at dksX1_checkAddress_0 0 rfl rfl)
theorem dX1_checkAddress_1 : decode cX1_checkAddress 1 = .ok (.iconst 0, 1) := dk_3 (dk_at dksX1_checkAddress_0 1 rfl rfl)
theorem dX1_checkAddress_2 : decode cX1_checkAddress 2 = .ok (.bipush 63, 2) := dk_16 63 (dk_at dksX1_checkAddress_0 2 rfl rfl)
theorem dX1_checkAddress_4 : decode cX1_checkAddress 4 = .ok (.invokestatic 32, 3) := dk_184 0 32 (dk_at dksX1_checkAddress_0 4 rfl rfl)
theorem dX1_checkAddress_7 : decode cX1_checkAddress 7 = .ok (.return_, 1) := dk_177 (dk_at dksX1_checkAddress_0 7 rfl rfl)
abbrev cX1_checkRange : ByteArray := prog_1_method_8_code
def yX1_checkRange : MethodName := ⟨RX1, "checkRange", "(III)V"⟩
def dkwX1_checkRange_0 : List UInt8 := [26, 27, 28, 184, 0, 24, 4, 26, 184, 0, 28, 177]
abbrev dktX1_checkRange_0 : List UInt8 := dkwX1_checkRange_0 ++ []
theorem dksX1_checkRange_0 : cX1_checkRange.data.toList.drop 0 = dktX1_checkRange_0 := by decide +kernel
theorem dX1_checkRange_0 : decode cX1_checkRange 0 = .ok (.iload_n 0, 1) := dk_26 (dk_at dksX1_checkRange_0 0 rfl rfl)
theorem dX1_checkRange_1 : decode cX1_checkRange 1 = .ok (.iload_n 1, 1) := dk_27 (dk_at dksX1_checkRange_0 1 rfl rfl)
theorem dX1_checkRange_2 : decode cX1_checkRange 2 = .ok (.iload_n 2, 1) := dk_28 (dk_at dksX1_checkRange_0 2 rfl rfl)
theorem dX1_checkRange_3 : decode cX1_checkRange 3 = .ok (.invokestatic 24, 3) := dk_184 0 24 (dk_at dksX1_checkRange_0 3 rfl rfl)
theorem dX1_checkRange_6 : decode cX1_checkRange 6 = .ok (.iconst 1, 1) := dk_4 (dk_at dksX1_checkRange_0 6 rfl rfl)
theorem dX1_checkRange_7 : decode cX1_checkRange 7 = .ok (.iload_n 0, 1) := dk_26 (dk_at dksX1_checkRange_0 7 rfl rfl)
theorem dX1_checkRange_8 : decode cX1_checkRange 8 = .ok (.invokestatic 28, 3) := dk_184 0 28 (dk_at dksX1_checkRange_0 8 rfl rfl)
theorem dX1_checkRange_11 : decode cX1_checkRange 11 = .ok (.return_, 1) := dk_177 (dk_at dksX1_checkRange_0 11 rfl rfl)
abbrev cX1_isBetween : ByteArray := prog_1_method_1_code
def yX1_isBetween : MethodName := ⟨RX1, "isBetween", "(III)Z"⟩
def dkwX1_isBetween_0 : List UInt8 := [27, 26, 163, 0, 12, 26, 28, 163, 0, 7, 4, 167, 0, 4, 3, 172]
abbrev dktX1_isBetween_0 : List UInt8 := dkwX1_isBetween_0 ++ []
theorem dksX1_isBetween_0 : cX1_isBetween.data.toList.drop 0 = dktX1_isBetween_0 := by decide +kernel
theorem dX1_isBetween_0 : decode cX1_isBetween 0 = .ok (.iload_n 1, 1) := dk_27 (dk_at dksX1_isBetween_0 0 rfl rfl)
theorem dX1_isBetween_1 : decode cX1_isBetween 1 = .ok (.iload_n 0, 1) := dk_26 (dk_at dksX1_isBetween_0 1 rfl rfl)
theorem dX1_isBetween_2 : decode cX1_isBetween 2 = .ok (.if_icmp .gt 12, 3) := dk_163 0 12 (dk_at dksX1_isBetween_0 2 rfl rfl)
theorem dX1_isBetween_5 : decode cX1_isBetween 5 = .ok (.iload_n 0, 1) := dk_26 (dk_at dksX1_isBetween_0 5 rfl rfl)
theorem dX1_isBetween_6 : decode cX1_isBetween 6 = .ok (.iload_n 2, 1) := dk_28 (dk_at dksX1_isBetween_0 6 rfl rfl)
theorem dX1_isBetween_7 : decode cX1_isBetween 7 = .ok (.if_icmp .gt 7, 3) := dk_163 0 7 (dk_at dksX1_isBetween_0 7 rfl rfl)
theorem dX1_isBetween_10 : decode cX1_isBetween 10 = .ok (.iconst 1, 1) := dk_4 (dk_at dksX1_isBetween_0 10 rfl rfl)
theorem dX1_isBetween_11 : decode cX1_isBetween 11 = .ok (.goto 4, 3) := dk_167 0 4 (dk_at dksX1_isBetween_0 11 rfl rfl)
theorem dX1_isBetween_14 : decode cX1_isBetween 14 = .ok (.iconst 0, 1) := dk_3 (dk_at dksX1_isBetween_0 14 rfl rfl)
theorem dX1_isBetween_15 : decode cX1_isBetween 15 = .ok (.ireturn, 1) := dk_172 (dk_at dksX1_isBetween_0 15 rfl rfl)
abbrev cX1_check : ByteArray := prog_1_method_7_code
def yX1_check : MethodName := ⟨RX1, "check", "(ZII)V"⟩
def dkwX1_check_0 : List UInt8 := [26, 154, 0, 13, 187, 0, 19, 89, 27, 28, 183, 0, 21, 191, 177]
abbrev dktX1_check_0 : List UInt8 := dkwX1_check_0 ++ []
theorem dksX1_check_0 : cX1_check.data.toList.drop 0 = dktX1_check_0 := by decide +kernel
theorem dX1_check_0 : decode cX1_check 0 = .ok (.iload_n 0, 1) := dk_26 (dk_at dksX1_check_0 0 rfl rfl)
theorem dX1_check_1 : decode cX1_check 1 = .ok (.ifCond .ne 13, 3) := dk_154 0 13 (dk_at dksX1_check_0 1 rfl rfl)
theorem dX1_check_4 : decode cX1_check 4 = .ok (.new 19, 3) := dk_187 0 19 (dk_at dksX1_check_0 4 rfl rfl)
theorem dX1_check_7 : decode cX1_check 7 = .ok (.dup, 1) := dk_89 (dk_at dksX1_check_0 7 rfl rfl)
theorem dX1_check_8 : decode cX1_check 8 = .ok (.iload_n 1, 1) := dk_27 (dk_at dksX1_check_0 8 rfl rfl)
theorem dX1_check_9 : decode cX1_check 9 = .ok (.iload_n 2, 1) := dk_28 (dk_at dksX1_check_0 9 rfl rfl)
theorem dX1_check_10 : decode cX1_check 10 = .ok (.invokespecial 21, 3) := dk_183 0 21 (dk_at dksX1_check_0 10 rfl rfl)
theorem dX1_check_13 : decode cX1_check 13 = .ok (.athrow, 1) := dk_191 (dk_at dksX1_check_0 13 rfl rfl)
theorem dX1_check_14 : decode cX1_check 14 = .ok (.return_, 1) := dk_177 (dk_at dksX1_check_0 14 rfl rfl)
abbrev cX1_byRule : ByteArray := prog_1_method_11_code
def yX1_byRule : MethodName := ⟨RX1, "byRule", "(I)Ljava/util/Comparator;"⟩
def dkwX1_byRule_3 : List UInt8 := [187, 0, 45, 89, 183, 0, 47, 176]
abbrev dktX1_byRule_3 : List UInt8 := dkwX1_byRule_3 ++ []
def dkwX1_byRule_2 : List UInt8 := [187, 0, 36, 89, 183, 0, 38, 176, 187, 0, 39, 89, 183, 0, 41, 176, 187, 0, 42, 89, 183, 0, 44, 176]
abbrev dktX1_byRule_2 : List UInt8 := dkwX1_byRule_2 ++ dktX1_byRule_3
def dkwX1_byRule_1 : List UInt8 := [170, 0, 0, 0, 0, 0, 51, 0, 0, 0, 0, 0, 0, 0, 2, 0, 0, 0, 27, 0, 0, 0, 35, 0, 0, 0, 43]
abbrev dktX1_byRule_1 : List UInt8 := dkwX1_byRule_1 ++ dktX1_byRule_2
def dkwX1_byRule_0 : List UInt8 := [26]
abbrev dktX1_byRule_0 : List UInt8 := dkwX1_byRule_0 ++ dktX1_byRule_1
theorem dksX1_byRule_0 : cX1_byRule.data.toList.drop 0 = dktX1_byRule_0 := by decide +kernel
theorem dksX1_byRule_1 : cX1_byRule.data.toList.drop 1 = dktX1_byRule_1 := dk_seg dksX1_byRule_0 1 rfl rfl
theorem dksX1_byRule_2 : cX1_byRule.data.toList.drop 28 = dktX1_byRule_2 := dk_seg dksX1_byRule_1 27 rfl rfl
theorem dksX1_byRule_3 : cX1_byRule.data.toList.drop 52 = dktX1_byRule_3 := dk_seg dksX1_byRule_2 24 rfl rfl
theorem dX1_byRule_0 : decode cX1_byRule 0 = .ok (.iload_n 0, 1) := dk_26 (dk_at dksX1_byRule_0 0 rfl rfl)
theorem dX1_byRule_1 : decode cX1_byRule 1 = .ok (.tableswitch 51 0 2 #[27, 35, 43], 27) := by decide +kernel
theorem dX1_byRule_28 : decode cX1_byRule 28 = .ok (.new 36, 3) := dk_187 0 36 (dk_at dksX1_byRule_2 0 rfl rfl)
theorem dX1_byRule_31 : decode cX1_byRule 31 = .ok (.dup, 1) := dk_89 (dk_at dksX1_byRule_2 3 rfl rfl)
theorem dX1_byRule_32 : decode cX1_byRule 32 = .ok (.invokespecial 38, 3) := dk_183 0 38 (dk_at dksX1_byRule_2 4 rfl rfl)
theorem dX1_byRule_35 : decode cX1_byRule 35 = .ok (.areturn, 1) := dk_176 (dk_at dksX1_byRule_2 7 rfl rfl)
theorem dX1_byRule_36 : decode cX1_byRule 36 = .ok (.new 39, 3) := dk_187 0 39 (dk_at dksX1_byRule_2 8 rfl rfl)
theorem dX1_byRule_39 : decode cX1_byRule 39 = .ok (.dup, 1) := dk_89 (dk_at dksX1_byRule_2 11 rfl rfl)
theorem dX1_byRule_40 : decode cX1_byRule 40 = .ok (.invokespecial 41, 3) := dk_183 0 41 (dk_at dksX1_byRule_2 12 rfl rfl)
theorem dX1_byRule_43 : decode cX1_byRule 43 = .ok (.areturn, 1) := dk_176 (dk_at dksX1_byRule_2 15 rfl rfl)
theorem dX1_byRule_44 : decode cX1_byRule 44 = .ok (.new 42, 3) := dk_187 0 42 (dk_at dksX1_byRule_2 16 rfl rfl)
theorem dX1_byRule_47 : decode cX1_byRule 47 = .ok (.dup, 1) := dk_89 (dk_at dksX1_byRule_2 19 rfl rfl)
theorem dX1_byRule_48 : decode cX1_byRule 48 = .ok (.invokespecial 44, 3) := dk_183 0 44 (dk_at dksX1_byRule_2 20 rfl rfl)
theorem dX1_byRule_51 : decode cX1_byRule 51 = .ok (.areturn, 1) := dk_176 (dk_at dksX1_byRule_2 23 rfl rfl)
theorem dX1_byRule_52 : decode cX1_byRule 52 = .ok (.new 45, 3) := dk_187 0 45 (dk_at dksX1_byRule_3 0 rfl rfl)
theorem dX1_byRule_55 : decode cX1_byRule 55 = .ok (.dup, 1) := dk_89 (dk_at dksX1_byRule_3 3 rfl rfl)
theorem dX1_byRule_56 : decode cX1_byRule 56 = .ok (.invokespecial 47, 3) := dk_183 0 47 (dk_at dksX1_byRule_3 4 rfl rfl)
theorem dX1_byRule_59 : decode cX1_byRule 59 = .ok (.areturn, 1) := dk_176 (dk_at dksX1_byRule_3 7 rfl rfl)
abbrev cX1_checkWord : ByteArray := prog_1_method_10_code
def yX1_checkWord : MethodName := ⟨RX1, "checkWord", "(I)V"⟩
def dkwX1_checkWord_0 : List UInt8 := [26, 17, 252, 25, 17, 3, 231, 184, 0, 32, 177]
abbrev dktX1_checkWord_0 : List UInt8 := dkwX1_checkWord_0 ++ []
theorem dksX1_checkWord_0 : cX1_checkWord.data.toList.drop 0 = dktX1_checkWord_0 := by decide +kernel
theorem dX1_checkWord_0 : decode cX1_checkWord 0 = .ok (.iload_n 0, 1) := dk_26 (dk_at dksX1_checkWord_0 0 rfl rfl)
theorem dX1_checkWord_1 : decode cX1_checkWord 1 = .ok (.sipush (-999), 3) := dk_17 252 25 (dk_at dksX1_checkWord_0 1 rfl rfl)
theorem dX1_checkWord_4 : decode cX1_checkWord 4 = .ok (.sipush 999, 3) := dk_17 3 231 (dk_at dksX1_checkWord_0 4 rfl rfl)
theorem dX1_checkWord_7 : decode cX1_checkWord 7 = .ok (.invokestatic 32, 3) := dk_184 0 32 (dk_at dksX1_checkWord_0 7 rfl rfl)
theorem dX1_checkWord_10 : decode cX1_checkWord 10 = .ok (.return_, 1) := dk_177 (dk_at dksX1_checkWord_0 10 rfl rfl)
abbrev cX1_write : ByteArray := prog_1_method_16_code
def yX1_write : MethodName := ⟨RX1, "write", "(II)I"⟩
def dkwX1_write_0 : List UInt8 := [42, 187, 0, 100, 89, 18, 124, 27, 28, 183, 0, 117, 182, 0, 120, 172]
abbrev dktX1_write_0 : List UInt8 := dkwX1_write_0 ++ []
theorem dksX1_write_0 : cX1_write.data.toList.drop 0 = dktX1_write_0 := by decide +kernel
theorem dX1_write_0 : decode cX1_write 0 = .ok (.aload_n 0, 1) := dk_42 (dk_at dksX1_write_0 0 rfl rfl)
theorem dX1_write_1 : decode cX1_write 1 = .ok (.new 100, 3) := dk_187 0 100 (dk_at dksX1_write_0 1 rfl rfl)
theorem dX1_write_4 : decode cX1_write 4 = .ok (.dup, 1) := dk_89 (dk_at dksX1_write_0 4 rfl rfl)
theorem dX1_write_5 : decode cX1_write 5 = .ok (.ldc 124, 2) := dk_18 124 (dk_at dksX1_write_0 5 rfl rfl)
theorem dX1_write_7 : decode cX1_write 7 = .ok (.iload_n 1, 1) := dk_27 (dk_at dksX1_write_0 7 rfl rfl)
theorem dX1_write_8 : decode cX1_write 8 = .ok (.iload_n 2, 1) := dk_28 (dk_at dksX1_write_0 8 rfl rfl)
theorem dX1_write_9 : decode cX1_write 9 = .ok (.invokespecial 117, 3) := dk_183 0 117 (dk_at dksX1_write_0 9 rfl rfl)
theorem dX1_write_12 : decode cX1_write 12 = .ok (.invokevirtual 120, 3) := dk_182 0 120 (dk_at dksX1_write_0 12 rfl rfl)
theorem dX1_write_15 : decode cX1_write 15 = .ok (.ireturn, 1) := dk_172 (dk_at dksX1_write_0 15 rfl rfl)
abbrev cX1_device : ByteArray := prog_1_method_17_code
def yX1_device : MethodName := ⟨RX1, "device", "(II)I"⟩
def dkwX1_device_0 : List UInt8 := [42, 187, 0, 100, 89, 18, 126, 27, 28, 183, 0, 117, 182, 0, 120, 172]
abbrev dktX1_device_0 : List UInt8 := dkwX1_device_0 ++ []
theorem dksX1_device_0 : cX1_device.data.toList.drop 0 = dktX1_device_0 := by decide +kernel
theorem dX1_device_0 : decode cX1_device 0 = .ok (.aload_n 0, 1) := dk_42 (dk_at dksX1_device_0 0 rfl rfl)
theorem dX1_device_1 : decode cX1_device 1 = .ok (.new 100, 3) := dk_187 0 100 (dk_at dksX1_device_0 1 rfl rfl)
theorem dX1_device_4 : decode cX1_device 4 = .ok (.dup, 1) := dk_89 (dk_at dksX1_device_0 4 rfl rfl)
theorem dX1_device_5 : decode cX1_device 5 = .ok (.ldc 126, 2) := dk_18 126 (dk_at dksX1_device_0 5 rfl rfl)
theorem dX1_device_7 : decode cX1_device 7 = .ok (.iload_n 1, 1) := dk_27 (dk_at dksX1_device_0 7 rfl rfl)
theorem dX1_device_8 : decode cX1_device 8 = .ok (.iload_n 2, 1) := dk_28 (dk_at dksX1_device_0 8 rfl rfl)
theorem dX1_device_9 : decode cX1_device 9 = .ok (.invokespecial 117, 3) := dk_183 0 117 (dk_at dksX1_device_0 9 rfl rfl)
theorem dX1_device_12 : decode cX1_device 12 = .ok (.invokevirtual 120, 3) := dk_182 0 120 (dk_at dksX1_device_0 12 rfl rfl)
theorem dX1_device_15 : decode cX1_device 15 = .ok (.ireturn, 1) := dk_172 (dk_at dksX1_device_0 15 rfl rfl)
abbrev cX1_pass : ByteArray := prog_1_method_18_code
def yX1_pass : MethodName := ⟨RX1, "pass", "(I)I"⟩
def dkwX1_pass_0 : List UInt8 := [42, 187, 0, 100, 89, 18, 128, 27, 3, 183, 0, 117, 182, 0, 120, 172]
abbrev dktX1_pass_0 : List UInt8 := dkwX1_pass_0 ++ []
theorem dksX1_pass_0 : cX1_pass.data.toList.drop 0 = dktX1_pass_0 := by decide +kernel
theorem dX1_pass_0 : decode cX1_pass 0 = .ok (.aload_n 0, 1) := dk_42 (dk_at dksX1_pass_0 0 rfl rfl)
theorem dX1_pass_1 : decode cX1_pass 1 = .ok (.new 100, 3) := dk_187 0 100 (dk_at dksX1_pass_0 1 rfl rfl)
theorem dX1_pass_4 : decode cX1_pass 4 = .ok (.dup, 1) := dk_89 (dk_at dksX1_pass_0 4 rfl rfl)
theorem dX1_pass_5 : decode cX1_pass 5 = .ok (.ldc 128, 2) := dk_18 128 (dk_at dksX1_pass_0 5 rfl rfl)
theorem dX1_pass_7 : decode cX1_pass 7 = .ok (.iload_n 1, 1) := dk_27 (dk_at dksX1_pass_0 7 rfl rfl)
theorem dX1_pass_8 : decode cX1_pass 8 = .ok (.iconst 0, 1) := dk_3 (dk_at dksX1_pass_0 8 rfl rfl)
theorem dX1_pass_9 : decode cX1_pass 9 = .ok (.invokespecial 117, 3) := dk_183 0 117 (dk_at dksX1_pass_0 9 rfl rfl)
theorem dX1_pass_12 : decode cX1_pass 12 = .ok (.invokevirtual 120, 3) := dk_182 0 120 (dk_at dksX1_pass_0 12 rfl rfl)
theorem dX1_pass_15 : decode cX1_pass 15 = .ok (.ireturn, 1) := dk_172 (dk_at dksX1_pass_0 15 rfl rfl)
abbrev cX1_pin : ByteArray := prog_1_method_19_code
def yX1_pin : MethodName := ⟨RX1, "pin", "(I)I"⟩
def dkwX1_pin_0 : List UInt8 := [42, 187, 0, 100, 89, 18, 130, 27, 3, 183, 0, 117, 182, 0, 120, 172]
abbrev dktX1_pin_0 : List UInt8 := dkwX1_pin_0 ++ []
theorem dksX1_pin_0 : cX1_pin.data.toList.drop 0 = dktX1_pin_0 := by decide +kernel
theorem dX1_pin_0 : decode cX1_pin 0 = .ok (.aload_n 0, 1) := dk_42 (dk_at dksX1_pin_0 0 rfl rfl)
theorem dX1_pin_1 : decode cX1_pin 1 = .ok (.new 100, 3) := dk_187 0 100 (dk_at dksX1_pin_0 1 rfl rfl)
theorem dX1_pin_4 : decode cX1_pin 4 = .ok (.dup, 1) := dk_89 (dk_at dksX1_pin_0 4 rfl rfl)
theorem dX1_pin_5 : decode cX1_pin 5 = .ok (.ldc 130, 2) := dk_18 130 (dk_at dksX1_pin_0 5 rfl rfl)
theorem dX1_pin_7 : decode cX1_pin 7 = .ok (.iload_n 1, 1) := dk_27 (dk_at dksX1_pin_0 7 rfl rfl)
theorem dX1_pin_8 : decode cX1_pin 8 = .ok (.iconst 0, 1) := dk_3 (dk_at dksX1_pin_0 8 rfl rfl)
theorem dX1_pin_9 : decode cX1_pin 9 = .ok (.invokespecial 117, 3) := dk_183 0 117 (dk_at dksX1_pin_0 9 rfl rfl)
theorem dX1_pin_12 : decode cX1_pin 12 = .ok (.invokevirtual 120, 3) := dk_182 0 120 (dk_at dksX1_pin_0 12 rfl rfl)
theorem dX1_pin_15 : decode cX1_pin 15 = .ok (.ireturn, 1) := dk_172 (dk_at dksX1_pin_0 15 rfl rfl)
abbrev cX1_free : ByteArray := prog_1_method_20_code
def yX1_free : MethodName := ⟨RX1, "free", "(I)I"⟩
def dkwX1_free_0 : List UInt8 := [42, 187, 0, 100, 89, 18, 132, 27, 3, 183, 0, 117, 182, 0, 120, 172]
abbrev dktX1_free_0 : List UInt8 := dkwX1_free_0 ++ []
theorem dksX1_free_0 : cX1_free.data.toList.drop 0 = dktX1_free_0 := by decide +kernel
theorem dX1_free_0 : decode cX1_free 0 = .ok (.aload_n 0, 1) := dk_42 (dk_at dksX1_free_0 0 rfl rfl)
theorem dX1_free_1 : decode cX1_free 1 = .ok (.new 100, 3) := dk_187 0 100 (dk_at dksX1_free_0 1 rfl rfl)
theorem dX1_free_4 : decode cX1_free 4 = .ok (.dup, 1) := dk_89 (dk_at dksX1_free_0 4 rfl rfl)
theorem dX1_free_5 : decode cX1_free 5 = .ok (.ldc 132, 2) := dk_18 132 (dk_at dksX1_free_0 5 rfl rfl)
theorem dX1_free_7 : decode cX1_free 7 = .ok (.iload_n 1, 1) := dk_27 (dk_at dksX1_free_0 7 rfl rfl)
theorem dX1_free_8 : decode cX1_free 8 = .ok (.iconst 0, 1) := dk_3 (dk_at dksX1_free_0 8 rfl rfl)
theorem dX1_free_9 : decode cX1_free 9 = .ok (.invokespecial 117, 3) := dk_183 0 117 (dk_at dksX1_free_0 9 rfl rfl)
theorem dX1_free_12 : decode cX1_free 12 = .ok (.invokevirtual 120, 3) := dk_182 0 120 (dk_at dksX1_free_0 12 rfl rfl)
theorem dX1_free_15 : decode cX1_free 15 = .ok (.ireturn, 1) := dk_172 (dk_at dksX1_free_0 15 rfl rfl)
abbrev cX1_flush : ByteArray := prog_1_method_21_code
def yX1_flush : MethodName := ⟨RX1, "flush", "()I"⟩
def dkwX1_flush_0 : List UInt8 := [42, 187, 0, 100, 89, 18, 134, 3, 3, 183, 0, 117, 182, 0, 120, 172]
abbrev dktX1_flush_0 : List UInt8 := dkwX1_flush_0 ++ []
theorem dksX1_flush_0 : cX1_flush.data.toList.drop 0 = dktX1_flush_0 := by decide +kernel
theorem dX1_flush_0 : decode cX1_flush 0 = .ok (.aload_n 0, 1) := dk_42 (dk_at dksX1_flush_0 0 rfl rfl)
theorem dX1_flush_1 : decode cX1_flush 1 = .ok (.new 100, 3) := dk_187 0 100 (dk_at dksX1_flush_0 1 rfl rfl)
theorem dX1_flush_4 : decode cX1_flush 4 = .ok (.dup, 1) := dk_89 (dk_at dksX1_flush_0 4 rfl rfl)
theorem dX1_flush_5 : decode cX1_flush 5 = .ok (.ldc 134, 2) := dk_18 134 (dk_at dksX1_flush_0 5 rfl rfl)
theorem dX1_flush_7 : decode cX1_flush 7 = .ok (.iconst 0, 1) := dk_3 (dk_at dksX1_flush_0 7 rfl rfl)
theorem dX1_flush_8 : decode cX1_flush 8 = .ok (.iconst 0, 1) := dk_3 (dk_at dksX1_flush_0 8 rfl rfl)
theorem dX1_flush_9 : decode cX1_flush 9 = .ok (.invokespecial 117, 3) := dk_183 0 117 (dk_at dksX1_flush_0 9 rfl rfl)
theorem dX1_flush_12 : decode cX1_flush 12 = .ok (.invokevirtual 120, 3) := dk_182 0 120 (dk_at dksX1_flush_0 12 rfl rfl)
theorem dX1_flush_15 : decode cX1_flush 15 = .ok (.ireturn, 1) := dk_172 (dk_at dksX1_flush_0 15 rfl rfl)
abbrev cX1_shape : ByteArray := prog_1_method_22_code
def yX1_shape : MethodName := ⟨RX1, "shape", "(II)I"⟩
def dkwX1_shape_0 : List UInt8 := [42, 187, 0, 100, 89, 18, 136, 27, 28, 183, 0, 117, 182, 0, 120, 172]
abbrev dktX1_shape_0 : List UInt8 := dkwX1_shape_0 ++ []
theorem dksX1_shape_0 : cX1_shape.data.toList.drop 0 = dktX1_shape_0 := by decide +kernel
theorem dX1_shape_0 : decode cX1_shape 0 = .ok (.aload_n 0, 1) := dk_42 (dk_at dksX1_shape_0 0 rfl rfl)
theorem dX1_shape_1 : decode cX1_shape 1 = .ok (.new 100, 3) := dk_187 0 100 (dk_at dksX1_shape_0 1 rfl rfl)
theorem dX1_shape_4 : decode cX1_shape 4 = .ok (.dup, 1) := dk_89 (dk_at dksX1_shape_0 4 rfl rfl)
theorem dX1_shape_5 : decode cX1_shape 5 = .ok (.ldc 136, 2) := dk_18 136 (dk_at dksX1_shape_0 5 rfl rfl)
theorem dX1_shape_7 : decode cX1_shape 7 = .ok (.iload_n 1, 1) := dk_27 (dk_at dksX1_shape_0 7 rfl rfl)
theorem dX1_shape_8 : decode cX1_shape 8 = .ok (.iload_n 2, 1) := dk_28 (dk_at dksX1_shape_0 8 rfl rfl)
theorem dX1_shape_9 : decode cX1_shape 9 = .ok (.invokespecial 117, 3) := dk_183 0 117 (dk_at dksX1_shape_0 9 rfl rfl)
theorem dX1_shape_12 : decode cX1_shape 12 = .ok (.invokevirtual 120, 3) := dk_182 0 120 (dk_at dksX1_shape_0 12 rfl rfl)
theorem dX1_shape_15 : decode cX1_shape 15 = .ok (.ireturn, 1) := dk_172 (dk_at dksX1_shape_0 15 rfl rfl)
abbrev cX1_rule : ByteArray := prog_1_method_23_code
def yX1_rule : MethodName := ⟨RX1, "rule", "(I)I"⟩
def dkwX1_rule_0 : List UInt8 := [42, 187, 0, 100, 89, 18, 138, 27, 3, 183, 0, 117, 182, 0, 120, 172]
abbrev dktX1_rule_0 : List UInt8 := dkwX1_rule_0 ++ []
theorem dksX1_rule_0 : cX1_rule.data.toList.drop 0 = dktX1_rule_0 := by decide +kernel
theorem dX1_rule_0 : decode cX1_rule 0 = .ok (.aload_n 0, 1) := dk_42 (dk_at dksX1_rule_0 0 rfl rfl)
theorem dX1_rule_1 : decode cX1_rule 1 = .ok (.new 100, 3) := dk_187 0 100 (dk_at dksX1_rule_0 1 rfl rfl)
theorem dX1_rule_4 : decode cX1_rule 4 = .ok (.dup, 1) := dk_89 (dk_at dksX1_rule_0 4 rfl rfl)
theorem dX1_rule_5 : decode cX1_rule 5 = .ok (.ldc 138, 2) := dk_18 138 (dk_at dksX1_rule_0 5 rfl rfl)
theorem dX1_rule_7 : decode cX1_rule 7 = .ok (.iload_n 1, 1) := dk_27 (dk_at dksX1_rule_0 7 rfl rfl)
theorem dX1_rule_8 : decode cX1_rule 8 = .ok (.iconst 0, 1) := dk_3 (dk_at dksX1_rule_0 8 rfl rfl)
theorem dX1_rule_9 : decode cX1_rule 9 = .ok (.invokespecial 117, 3) := dk_183 0 117 (dk_at dksX1_rule_0 9 rfl rfl)
theorem dX1_rule_12 : decode cX1_rule 12 = .ok (.invokevirtual 120, 3) := dk_182 0 120 (dk_at dksX1_rule_0 12 rfl rfl)
theorem dX1_rule_15 : decode cX1_rule 15 = .ok (.ireturn, 1) := dk_172 (dk_at dksX1_rule_0 15 rfl rfl)
abbrev cX1_wordAt : ByteArray := prog_1_method_28_code
def yX1_wordAt : MethodName := ⟨RX1, "wordAt", "(I)I"⟩
def dkwX1_wordAt_0 : List UInt8 := [27, 184, 0, 157, 42, 180, 0, 54, 27, 182, 0, 161, 172]
abbrev dktX1_wordAt_0 : List UInt8 := dkwX1_wordAt_0 ++ []
theorem dksX1_wordAt_0 : cX1_wordAt.data.toList.drop 0 = dktX1_wordAt_0 := by decide +kernel
theorem dX1_wordAt_0 : decode cX1_wordAt 0 = .ok (.iload_n 1, 1) := dk_27 (dk_at dksX1_wordAt_0 0 rfl rfl)
theorem dX1_wordAt_1 : decode cX1_wordAt 1 = .ok (.invokestatic 157, 3) := dk_184 0 157 (dk_at dksX1_wordAt_0 1 rfl rfl)
theorem dX1_wordAt_4 : decode cX1_wordAt 4 = .ok (.aload_n 0, 1) := dk_42 (dk_at dksX1_wordAt_0 4 rfl rfl)
theorem dX1_wordAt_5 : decode cX1_wordAt 5 = .ok (.getfield 54, 3) := dk_180 0 54 (dk_at dksX1_wordAt_0 5 rfl rfl)
theorem dX1_wordAt_8 : decode cX1_wordAt 8 = .ok (.iload_n 1, 1) := dk_27 (dk_at dksX1_wordAt_0 8 rfl rfl)
theorem dX1_wordAt_9 : decode cX1_wordAt 9 = .ok (.invokevirtual 161, 3) := dk_182 0 161 (dk_at dksX1_wordAt_0 9 rfl rfl)
theorem dX1_wordAt_12 : decode cX1_wordAt 12 = .ok (.ireturn, 1) := dk_172 (dk_at dksX1_wordAt_0 12 rfl rfl)
abbrev cX1_requireAddress : ByteArray := prog_1_method_25_code
def yX1_requireAddress : MethodName := ⟨RX1, "requireAddress", "(I)V"⟩
def dkwX1_requireAddress_0 : List UInt8 := [26, 3, 16, 63, 184, 0, 24, 184, 0, 147, 177]
abbrev dktX1_requireAddress_0 : List UInt8 := dkwX1_requireAddress_0 ++ []
theorem dksX1_requireAddress_0 : cX1_requireAddress.data.toList.drop 0 = dktX1_requireAddress_0 := by decide +kernel
theorem dX1_requireAddress_0 : decode cX1_requireAddress 0 = .ok (.iload_n 0, 1) := dk_26 (dk_at dksX1_requireAddress_0 0 rfl rfl)
theorem dX1_requireAddress_1 : decode cX1_requireAddress 1 = .ok (.iconst 0, 1) := dk_3 (dk_at dksX1_requireAddress_0 1 rfl rfl)
theorem dX1_requireAddress_2 : decode cX1_requireAddress 2 = .ok (.bipush 63, 2) := dk_16 63 (dk_at dksX1_requireAddress_0 2 rfl rfl)
theorem dX1_requireAddress_4 : decode cX1_requireAddress 4 = .ok (.invokestatic 24, 3) := dk_184 0 24 (dk_at dksX1_requireAddress_0 4 rfl rfl)
theorem dX1_requireAddress_7 : decode cX1_requireAddress 7 = .ok (.invokestatic 147, 3) := dk_184 0 147 (dk_at dksX1_requireAddress_0 7 rfl rfl)
theorem dX1_requireAddress_10 : decode cX1_requireAddress 10 = .ok (.return_, 1) := dk_177 (dk_at dksX1_requireAddress_0 10 rfl rfl)
abbrev cX1_requireIndex : ByteArray := prog_1_method_2_code
def yX1_requireIndex : MethodName := ⟨RX1, "requireIndex", "(Z)V"⟩
def dkwX1_requireIndex_0 : List UInt8 := [26, 154, 0, 11, 187, 0, 1, 89, 183, 0, 3, 191, 177]
abbrev dktX1_requireIndex_0 : List UInt8 := dkwX1_requireIndex_0 ++ []
theorem dksX1_requireIndex_0 : cX1_requireIndex.data.toList.drop 0 = dktX1_requireIndex_0 := by decide +kernel
theorem dX1_requireIndex_0 : decode cX1_requireIndex 0 = .ok (.iload_n 0, 1) := dk_26 (dk_at dksX1_requireIndex_0 0 rfl rfl)
theorem dX1_requireIndex_1 : decode cX1_requireIndex 1 = .ok (.ifCond .ne 11, 3) := dk_154 0 11 (dk_at dksX1_requireIndex_0 1 rfl rfl)
theorem dX1_requireIndex_4 : decode cX1_requireIndex 4 = .ok (.new 1, 3) := dk_187 0 1 (dk_at dksX1_requireIndex_0 4 rfl rfl)
theorem dX1_requireIndex_7 : decode cX1_requireIndex 7 = .ok (.dup, 1) := dk_89 (dk_at dksX1_requireIndex_0 7 rfl rfl)
theorem dX1_requireIndex_8 : decode cX1_requireIndex 8 = .ok (.invokespecial 3, 3) := dk_183 0 3 (dk_at dksX1_requireIndex_0 8 rfl rfl)
theorem dX1_requireIndex_11 : decode cX1_requireIndex 11 = .ok (.athrow, 1) := dk_191 (dk_at dksX1_requireIndex_0 11 rfl rfl)
theorem dX1_requireIndex_12 : decode cX1_requireIndex 12 = .ok (.return_, 1) := dk_177 (dk_at dksX1_requireIndex_0 12 rfl rfl)
abbrev cX1_wordAgain : ByteArray := prog_1_method_29_code
def yX1_wordAgain : MethodName := ⟨RX1, "wordAgain", "(I)I"⟩
def dkwX1_wordAgain_1 : List UInt8 := [180, 0, 54, 180, 0, 165, 27, 184, 0, 169, 182, 0, 181, 192, 0, 170, 182, 0, 185, 167, 0, 4, 3, 172]
abbrev dktX1_wordAgain_1 : List UInt8 := dkwX1_wordAgain_1 ++ []
def dkwX1_wordAgain_0 : List UInt8 := [27, 184, 0, 157, 42, 180, 0, 54, 180, 0, 165, 27, 184, 0, 169, 182, 0, 175, 153, 0, 26, 42]
abbrev dktX1_wordAgain_0 : List UInt8 := dkwX1_wordAgain_0 ++ dktX1_wordAgain_1
theorem dksX1_wordAgain_0 : cX1_wordAgain.data.toList.drop 0 = dktX1_wordAgain_0 := by decide +kernel
theorem dksX1_wordAgain_1 : cX1_wordAgain.data.toList.drop 22 = dktX1_wordAgain_1 := dk_seg dksX1_wordAgain_0 22 rfl rfl
theorem dX1_wordAgain_0 : decode cX1_wordAgain 0 = .ok (.iload_n 1, 1) := dk_27 (dk_at dksX1_wordAgain_0 0 rfl rfl)
theorem dX1_wordAgain_1 : decode cX1_wordAgain 1 = .ok (.invokestatic 157, 3) := dk_184 0 157 (dk_at dksX1_wordAgain_0 1 rfl rfl)
theorem dX1_wordAgain_4 : decode cX1_wordAgain 4 = .ok (.aload_n 0, 1) := dk_42 (dk_at dksX1_wordAgain_0 4 rfl rfl)
theorem dX1_wordAgain_5 : decode cX1_wordAgain 5 = .ok (.getfield 54, 3) := dk_180 0 54 (dk_at dksX1_wordAgain_0 5 rfl rfl)
theorem dX1_wordAgain_8 : decode cX1_wordAgain 8 = .ok (.getfield 165, 3) := dk_180 0 165 (dk_at dksX1_wordAgain_0 8 rfl rfl)
theorem dX1_wordAgain_11 : decode cX1_wordAgain 11 = .ok (.iload_n 1, 1) := dk_27 (dk_at dksX1_wordAgain_0 11 rfl rfl)
theorem dX1_wordAgain_12 : decode cX1_wordAgain 12 = .ok (.invokestatic 169, 3) := dk_184 0 169 (dk_at dksX1_wordAgain_0 12 rfl rfl)
theorem dX1_wordAgain_15 : decode cX1_wordAgain 15 = .ok (.invokevirtual 175, 3) := dk_182 0 175 (dk_at dksX1_wordAgain_0 15 rfl rfl)
theorem dX1_wordAgain_18 : decode cX1_wordAgain 18 = .ok (.ifCond .eq 26, 3) := dk_153 0 26 (dk_at dksX1_wordAgain_0 18 rfl rfl)
theorem dX1_wordAgain_21 : decode cX1_wordAgain 21 = .ok (.aload_n 0, 1) := dk_42 (dk_at dksX1_wordAgain_0 21 rfl rfl)
theorem dX1_wordAgain_22 : decode cX1_wordAgain 22 = .ok (.getfield 54, 3) := dk_180 0 54 (dk_at dksX1_wordAgain_1 0 rfl rfl)
theorem dX1_wordAgain_25 : decode cX1_wordAgain 25 = .ok (.getfield 165, 3) := dk_180 0 165 (dk_at dksX1_wordAgain_1 3 rfl rfl)
theorem dX1_wordAgain_28 : decode cX1_wordAgain 28 = .ok (.iload_n 1, 1) := dk_27 (dk_at dksX1_wordAgain_1 6 rfl rfl)
theorem dX1_wordAgain_29 : decode cX1_wordAgain 29 = .ok (.invokestatic 169, 3) := dk_184 0 169 (dk_at dksX1_wordAgain_1 7 rfl rfl)
theorem dX1_wordAgain_32 : decode cX1_wordAgain 32 = .ok (.invokevirtual 181, 3) := dk_182 0 181 (dk_at dksX1_wordAgain_1 10 rfl rfl)
theorem dX1_wordAgain_35 : decode cX1_wordAgain 35 = .ok (.checkcast 170, 3) := dk_192 0 170 (dk_at dksX1_wordAgain_1 13 rfl rfl)
theorem dX1_wordAgain_38 : decode cX1_wordAgain 38 = .ok (.invokevirtual 185, 3) := dk_182 0 185 (dk_at dksX1_wordAgain_1 16 rfl rfl)
theorem dX1_wordAgain_41 : decode cX1_wordAgain 41 = .ok (.goto 4, 3) := dk_167 0 4 (dk_at dksX1_wordAgain_1 19 rfl rfl)
theorem dX1_wordAgain_44 : decode cX1_wordAgain 44 = .ok (.iconst 0, 1) := dk_3 (dk_at dksX1_wordAgain_1 22 rfl rfl)
theorem dX1_wordAgain_45 : decode cX1_wordAgain 45 = .ok (.ireturn, 1) := dk_172 (dk_at dksX1_wordAgain_1 23 rfl rfl)
abbrev cX1_stored : ByteArray := prog_1_method_30_code
def yX1_stored : MethodName := ⟨RX1, "stored", "(I)I"⟩
def dkwX1_stored_0 : List UInt8 := [27, 184, 0, 157, 42, 180, 0, 54, 180, 0, 188, 27, 46, 172]
abbrev dktX1_stored_0 : List UInt8 := dkwX1_stored_0 ++ []
theorem dksX1_stored_0 : cX1_stored.data.toList.drop 0 = dktX1_stored_0 := by decide +kernel
theorem dX1_stored_0 : decode cX1_stored 0 = .ok (.iload_n 1, 1) := dk_27 (dk_at dksX1_stored_0 0 rfl rfl)
theorem dX1_stored_1 : decode cX1_stored 1 = .ok (.invokestatic 157, 3) := dk_184 0 157 (dk_at dksX1_stored_0 1 rfl rfl)
theorem dX1_stored_4 : decode cX1_stored 4 = .ok (.aload_n 0, 1) := dk_42 (dk_at dksX1_stored_0 4 rfl rfl)
theorem dX1_stored_5 : decode cX1_stored 5 = .ok (.getfield 54, 3) := dk_180 0 54 (dk_at dksX1_stored_0 5 rfl rfl)
theorem dX1_stored_8 : decode cX1_stored 8 = .ok (.getfield 188, 3) := dk_180 0 188 (dk_at dksX1_stored_0 8 rfl rfl)
theorem dX1_stored_11 : decode cX1_stored 11 = .ok (.iload_n 1, 1) := dk_27 (dk_at dksX1_stored_0 11 rfl rfl)
theorem dX1_stored_12 : decode cX1_stored 12 = .ok (.iaload, 1) := dk_46 (dk_at dksX1_stored_0 12 rfl rfl)
theorem dX1_stored_13 : decode cX1_stored 13 = .ok (.ireturn, 1) := dk_172 (dk_at dksX1_stored_0 13 rfl rfl)
abbrev cX1_lineOf : ByteArray := prog_1_method_31_code
def yX1_lineOf : MethodName := ⟨RX1, "lineOf", "(III)I"⟩
def dkwX1_lineOf_6 : List UInt8 := [183, 0, 223, 191]
abbrev dktX1_lineOf_6 : List UInt8 := dkwX1_lineOf_6 ++ []
def dkwX1_lineOf_5 : List UInt8 := [3, 172, 25, 4, 180, 0, 212, 172, 25, 4, 180, 0, 215, 172, 25, 4, 180, 0, 218, 172, 187, 0, 221, 89]
abbrev dktX1_lineOf_5 : List UInt8 := dkwX1_lineOf_5 ++ dktX1_lineOf_6
def dkwX1_lineOf_4 : List UInt8 := [25, 4, 180, 0, 203, 172, 25, 4, 180, 0, 206, 172, 25, 4, 180, 0, 209, 153, 0, 7, 4, 167, 0, 4]
abbrev dktX1_lineOf_4 : List UInt8 := dkwX1_lineOf_4 ++ dktX1_lineOf_5
def dkwX1_lineOf_3 : List UInt8 := [170, 0, 0, 0, 0, 82, 0, 0, 0, 0, 0, 0, 0, 5, 0, 0, 0, 38, 0, 0, 0, 44, 0, 0, 0, 50, 0, 0, 0, 64, 0, 0, 0, 70, 0, 0, 0, 76]
abbrev dktX1_lineOf_3 : List UInt8 := dkwX1_lineOf_3 ++ dktX1_lineOf_4
def dkwX1_lineOf_2 : List UInt8 := [58, 4, 29]
abbrev dktX1_lineOf_2 : List UInt8 := dkwX1_lineOf_2 ++ dktX1_lineOf_3
def dkwX1_lineOf_1 : List UInt8 := [180, 0, 54, 180, 0, 150, 27, 185, 0, 198, 2, 0, 192, 0, 155, 28, 185, 0, 198, 2, 0, 192, 0, 201]
abbrev dktX1_lineOf_1 : List UInt8 := dkwX1_lineOf_1 ++ dktX1_lineOf_2
def dkwX1_lineOf_0 : List UInt8 := [42, 27, 182, 0, 192, 28, 3, 42, 180, 0, 54, 180, 0, 195, 4, 100, 184, 0, 24, 184, 0, 147, 42]
abbrev dktX1_lineOf_0 : List UInt8 := dkwX1_lineOf_0 ++ dktX1_lineOf_1
theorem dksX1_lineOf_0 : cX1_lineOf.data.toList.drop 0 = dktX1_lineOf_0 := by decide +kernel
theorem dksX1_lineOf_1 : cX1_lineOf.data.toList.drop 23 = dktX1_lineOf_1 := dk_seg dksX1_lineOf_0 23 rfl rfl
theorem dksX1_lineOf_2 : cX1_lineOf.data.toList.drop 47 = dktX1_lineOf_2 := dk_seg dksX1_lineOf_1 24 rfl rfl
theorem dksX1_lineOf_3 : cX1_lineOf.data.toList.drop 50 = dktX1_lineOf_3 := dk_seg dksX1_lineOf_2 3 rfl rfl
theorem dksX1_lineOf_4 : cX1_lineOf.data.toList.drop 88 = dktX1_lineOf_4 := dk_seg dksX1_lineOf_3 38 rfl rfl
theorem dksX1_lineOf_5 : cX1_lineOf.data.toList.drop 112 = dktX1_lineOf_5 := dk_seg dksX1_lineOf_4 24 rfl rfl
theorem dksX1_lineOf_6 : cX1_lineOf.data.toList.drop 136 = dktX1_lineOf_6 := dk_seg dksX1_lineOf_5 24 rfl rfl
theorem dX1_lineOf_0 : decode cX1_lineOf 0 = .ok (.aload_n 0, 1) := dk_42 (dk_at dksX1_lineOf_0 0 rfl rfl)
theorem dX1_lineOf_1 : decode cX1_lineOf 1 = .ok (.iload_n 1, 1) := dk_27 (dk_at dksX1_lineOf_0 1 rfl rfl)
theorem dX1_lineOf_2 : decode cX1_lineOf 2 = .ok (.invokevirtual 192, 3) := dk_182 0 192 (dk_at dksX1_lineOf_0 2 rfl rfl)
theorem dX1_lineOf_5 : decode cX1_lineOf 5 = .ok (.iload_n 2, 1) := dk_28 (dk_at dksX1_lineOf_0 5 rfl rfl)
theorem dX1_lineOf_6 : decode cX1_lineOf 6 = .ok (.iconst 0, 1) := dk_3 (dk_at dksX1_lineOf_0 6 rfl rfl)
theorem dX1_lineOf_7 : decode cX1_lineOf 7 = .ok (.aload_n 0, 1) := dk_42 (dk_at dksX1_lineOf_0 7 rfl rfl)
theorem dX1_lineOf_8 : decode cX1_lineOf 8 = .ok (.getfield 54, 3) := dk_180 0 54 (dk_at dksX1_lineOf_0 8 rfl rfl)
theorem dX1_lineOf_11 : decode cX1_lineOf 11 = .ok (.getfield 195, 3) := dk_180 0 195 (dk_at dksX1_lineOf_0 11 rfl rfl)
theorem dX1_lineOf_14 : decode cX1_lineOf 14 = .ok (.iconst 1, 1) := dk_4 (dk_at dksX1_lineOf_0 14 rfl rfl)
theorem dX1_lineOf_15 : decode cX1_lineOf 15 = .ok (.isub, 1) := dk_100 (dk_at dksX1_lineOf_0 15 rfl rfl)
theorem dX1_lineOf_16 : decode cX1_lineOf 16 = .ok (.invokestatic 24, 3) := dk_184 0 24 (dk_at dksX1_lineOf_0 16 rfl rfl)
theorem dX1_lineOf_19 : decode cX1_lineOf 19 = .ok (.invokestatic 147, 3) := dk_184 0 147 (dk_at dksX1_lineOf_0 19 rfl rfl)
theorem dX1_lineOf_22 : decode cX1_lineOf 22 = .ok (.aload_n 0, 1) := dk_42 (dk_at dksX1_lineOf_0 22 rfl rfl)
theorem dX1_lineOf_23 : decode cX1_lineOf 23 = .ok (.getfield 54, 3) := dk_180 0 54 (dk_at dksX1_lineOf_1 0 rfl rfl)
theorem dX1_lineOf_26 : decode cX1_lineOf 26 = .ok (.getfield 150, 3) := dk_180 0 150 (dk_at dksX1_lineOf_1 3 rfl rfl)
theorem dX1_lineOf_29 : decode cX1_lineOf 29 = .ok (.iload_n 1, 1) := dk_27 (dk_at dksX1_lineOf_1 6 rfl rfl)
theorem dX1_lineOf_30 : decode cX1_lineOf 30 = .ok (.invokeinterface 198 2, 5) := by decide +kernel
theorem dX1_lineOf_35 : decode cX1_lineOf 35 = .ok (.checkcast 155, 3) := dk_192 0 155 (dk_at dksX1_lineOf_1 12 rfl rfl)
theorem dX1_lineOf_38 : decode cX1_lineOf 38 = .ok (.iload_n 2, 1) := dk_28 (dk_at dksX1_lineOf_1 15 rfl rfl)
theorem dX1_lineOf_39 : decode cX1_lineOf 39 = .ok (.invokeinterface 198 2, 5) := by decide +kernel
theorem dX1_lineOf_44 : decode cX1_lineOf 44 = .ok (.checkcast 201, 3) := dk_192 0 201 (dk_at dksX1_lineOf_1 21 rfl rfl)
theorem dX1_lineOf_47 : decode cX1_lineOf 47 = .ok (.astore 4, 2) := dk_58 4 (dk_at dksX1_lineOf_2 0 rfl rfl)
theorem dX1_lineOf_49 : decode cX1_lineOf 49 = .ok (.iload_n 3, 1) := dk_29 (dk_at dksX1_lineOf_2 2 rfl rfl)
theorem dX1_lineOf_50 : decode cX1_lineOf 50 = .ok (.tableswitch 82 0 5 #[38, 44, 50, 64, 70, 76], 38) := by decide +kernel
theorem dX1_lineOf_88 : decode cX1_lineOf 88 = .ok (.aload 4, 2) := dk_25 4 (dk_at dksX1_lineOf_4 0 rfl rfl)
theorem dX1_lineOf_90 : decode cX1_lineOf 90 = .ok (.getfield 203, 3) := dk_180 0 203 (dk_at dksX1_lineOf_4 2 rfl rfl)
theorem dX1_lineOf_93 : decode cX1_lineOf 93 = .ok (.ireturn, 1) := dk_172 (dk_at dksX1_lineOf_4 5 rfl rfl)
theorem dX1_lineOf_94 : decode cX1_lineOf 94 = .ok (.aload 4, 2) := dk_25 4 (dk_at dksX1_lineOf_4 6 rfl rfl)
theorem dX1_lineOf_96 : decode cX1_lineOf 96 = .ok (.getfield 206, 3) := dk_180 0 206 (dk_at dksX1_lineOf_4 8 rfl rfl)
theorem dX1_lineOf_99 : decode cX1_lineOf 99 = .ok (.ireturn, 1) := dk_172 (dk_at dksX1_lineOf_4 11 rfl rfl)
theorem dX1_lineOf_100 : decode cX1_lineOf 100 = .ok (.aload 4, 2) := dk_25 4 (dk_at dksX1_lineOf_4 12 rfl rfl)
theorem dX1_lineOf_102 : decode cX1_lineOf 102 = .ok (.getfield 209, 3) := dk_180 0 209 (dk_at dksX1_lineOf_4 14 rfl rfl)
theorem dX1_lineOf_105 : decode cX1_lineOf 105 = .ok (.ifCond .eq 7, 3) := dk_153 0 7 (dk_at dksX1_lineOf_4 17 rfl rfl)
theorem dX1_lineOf_108 : decode cX1_lineOf 108 = .ok (.iconst 1, 1) := dk_4 (dk_at dksX1_lineOf_4 20 rfl rfl)
theorem dX1_lineOf_109 : decode cX1_lineOf 109 = .ok (.goto 4, 3) := dk_167 0 4 (dk_at dksX1_lineOf_4 21 rfl rfl)
theorem dX1_lineOf_112 : decode cX1_lineOf 112 = .ok (.iconst 0, 1) := dk_3 (dk_at dksX1_lineOf_5 0 rfl rfl)
theorem dX1_lineOf_113 : decode cX1_lineOf 113 = .ok (.ireturn, 1) := dk_172 (dk_at dksX1_lineOf_5 1 rfl rfl)
theorem dX1_lineOf_114 : decode cX1_lineOf 114 = .ok (.aload 4, 2) := dk_25 4 (dk_at dksX1_lineOf_5 2 rfl rfl)
theorem dX1_lineOf_116 : decode cX1_lineOf 116 = .ok (.getfield 212, 3) := dk_180 0 212 (dk_at dksX1_lineOf_5 4 rfl rfl)
theorem dX1_lineOf_119 : decode cX1_lineOf 119 = .ok (.ireturn, 1) := dk_172 (dk_at dksX1_lineOf_5 7 rfl rfl)
theorem dX1_lineOf_120 : decode cX1_lineOf 120 = .ok (.aload 4, 2) := dk_25 4 (dk_at dksX1_lineOf_5 8 rfl rfl)
theorem dX1_lineOf_122 : decode cX1_lineOf 122 = .ok (.getfield 215, 3) := dk_180 0 215 (dk_at dksX1_lineOf_5 10 rfl rfl)
theorem dX1_lineOf_125 : decode cX1_lineOf 125 = .ok (.ireturn, 1) := dk_172 (dk_at dksX1_lineOf_5 13 rfl rfl)
theorem dX1_lineOf_126 : decode cX1_lineOf 126 = .ok (.aload 4, 2) := dk_25 4 (dk_at dksX1_lineOf_5 14 rfl rfl)
theorem dX1_lineOf_128 : decode cX1_lineOf 128 = .ok (.getfield 218, 3) := dk_180 0 218 (dk_at dksX1_lineOf_5 16 rfl rfl)
theorem dX1_lineOf_131 : decode cX1_lineOf 131 = .ok (.ireturn, 1) := dk_172 (dk_at dksX1_lineOf_5 19 rfl rfl)
theorem dX1_lineOf_132 : decode cX1_lineOf 132 = .ok (.new 221, 3) := dk_187 0 221 (dk_at dksX1_lineOf_5 20 rfl rfl)
theorem dX1_lineOf_135 : decode cX1_lineOf 135 = .ok (.dup, 1) := dk_89 (dk_at dksX1_lineOf_5 23 rfl rfl)
theorem dX1_lineOf_136 : decode cX1_lineOf 136 = .ok (.invokespecial 223, 3) := dk_183 0 223 (dk_at dksX1_lineOf_6 0 rfl rfl)
theorem dX1_lineOf_139 : decode cX1_lineOf 139 = .ok (.athrow, 1) := dk_191 (dk_at dksX1_lineOf_6 3 rfl rfl)
abbrev cX1_requireSet : ByteArray := prog_1_method_27_code
def yX1_requireSet : MethodName := ⟨RX1, "requireSet", "(I)V"⟩
def dkwX1_requireSet_0 : List UInt8 := [27, 3, 42, 180, 0, 54, 180, 0, 150, 185, 0, 154, 1, 0, 4, 100, 184, 0, 24, 184, 0, 147, 177]
abbrev dktX1_requireSet_0 : List UInt8 := dkwX1_requireSet_0 ++ []
theorem dksX1_requireSet_0 : cX1_requireSet.data.toList.drop 0 = dktX1_requireSet_0 := by decide +kernel
theorem dX1_requireSet_0 : decode cX1_requireSet 0 = .ok (.iload_n 1, 1) := dk_27 (dk_at dksX1_requireSet_0 0 rfl rfl)
theorem dX1_requireSet_1 : decode cX1_requireSet 1 = .ok (.iconst 0, 1) := dk_3 (dk_at dksX1_requireSet_0 1 rfl rfl)
theorem dX1_requireSet_2 : decode cX1_requireSet 2 = .ok (.aload_n 0, 1) := dk_42 (dk_at dksX1_requireSet_0 2 rfl rfl)
theorem dX1_requireSet_3 : decode cX1_requireSet 3 = .ok (.getfield 54, 3) := dk_180 0 54 (dk_at dksX1_requireSet_0 3 rfl rfl)
theorem dX1_requireSet_6 : decode cX1_requireSet 6 = .ok (.getfield 150, 3) := dk_180 0 150 (dk_at dksX1_requireSet_0 6 rfl rfl)
theorem dX1_requireSet_9 : decode cX1_requireSet 9 = .ok (.invokeinterface 154 1, 5) := by decide +kernel
theorem dX1_requireSet_14 : decode cX1_requireSet 14 = .ok (.iconst 1, 1) := dk_4 (dk_at dksX1_requireSet_0 14 rfl rfl)
theorem dX1_requireSet_15 : decode cX1_requireSet 15 = .ok (.isub, 1) := dk_100 (dk_at dksX1_requireSet_0 15 rfl rfl)
theorem dX1_requireSet_16 : decode cX1_requireSet 16 = .ok (.invokestatic 24, 3) := dk_184 0 24 (dk_at dksX1_requireSet_0 16 rfl rfl)
theorem dX1_requireSet_19 : decode cX1_requireSet 19 = .ok (.invokestatic 147, 3) := dk_184 0 147 (dk_at dksX1_requireSet_0 19 rfl rfl)
theorem dX1_requireSet_22 : decode cX1_requireSet 22 = .ok (.return_, 1) := dk_177 (dk_at dksX1_requireSet_0 22 rfl rfl)
abbrev cX1_holder : ByteArray := prog_1_method_32_code
def yX1_holder : MethodName := ⟨RX1, "holder", "(I)I"⟩
def dkwX1_holder_1 : List UInt8 := [184, 0, 15, 44, 180, 0, 231, 172]
abbrev dktX1_holder_1 : List UInt8 := dkwX1_holder_1 ++ []
def dkwX1_holder_0 : List UInt8 := [27, 184, 0, 224, 42, 180, 0, 54, 27, 182, 0, 227, 77, 44, 198, 0, 7, 4, 167, 0, 4, 3]
abbrev dktX1_holder_0 : List UInt8 := dkwX1_holder_0 ++ dktX1_holder_1
theorem dksX1_holder_0 : cX1_holder.data.toList.drop 0 = dktX1_holder_0 := by decide +kernel
theorem dksX1_holder_1 : cX1_holder.data.toList.drop 22 = dktX1_holder_1 := dk_seg dksX1_holder_0 22 rfl rfl
theorem dX1_holder_0 : decode cX1_holder 0 = .ok (.iload_n 1, 1) := dk_27 (dk_at dksX1_holder_0 0 rfl rfl)
theorem dX1_holder_1 : decode cX1_holder 1 = .ok (.invokestatic 224, 3) := dk_184 0 224 (dk_at dksX1_holder_0 1 rfl rfl)
theorem dX1_holder_4 : decode cX1_holder 4 = .ok (.aload_n 0, 1) := dk_42 (dk_at dksX1_holder_0 4 rfl rfl)
theorem dX1_holder_5 : decode cX1_holder 5 = .ok (.getfield 54, 3) := dk_180 0 54 (dk_at dksX1_holder_0 5 rfl rfl)
theorem dX1_holder_8 : decode cX1_holder 8 = .ok (.iload_n 1, 1) := dk_27 (dk_at dksX1_holder_0 8 rfl rfl)
theorem dX1_holder_9 : decode cX1_holder 9 = .ok (.invokevirtual 227, 3) := dk_182 0 227 (dk_at dksX1_holder_0 9 rfl rfl)
theorem dX1_holder_12 : decode cX1_holder 12 = .ok (.astore_n 2, 1) := dk_77 (dk_at dksX1_holder_0 12 rfl rfl)
theorem dX1_holder_13 : decode cX1_holder 13 = .ok (.aload_n 2, 1) := dk_44 (dk_at dksX1_holder_0 13 rfl rfl)
theorem dX1_holder_14 : decode cX1_holder 14 = .ok (.ifnull 7, 3) := dk_198 0 7 (dk_at dksX1_holder_0 14 rfl rfl)
theorem dX1_holder_17 : decode cX1_holder 17 = .ok (.iconst 1, 1) := dk_4 (dk_at dksX1_holder_0 17 rfl rfl)
theorem dX1_holder_18 : decode cX1_holder 18 = .ok (.goto 4, 3) := dk_167 0 4 (dk_at dksX1_holder_0 18 rfl rfl)
theorem dX1_holder_21 : decode cX1_holder 21 = .ok (.iconst 0, 1) := dk_3 (dk_at dksX1_holder_0 21 rfl rfl)
theorem dX1_holder_22 : decode cX1_holder 22 = .ok (.invokestatic 15, 3) := dk_184 0 15 (dk_at dksX1_holder_1 0 rfl rfl)
theorem dX1_holder_25 : decode cX1_holder 25 = .ok (.aload_n 2, 1) := dk_44 (dk_at dksX1_holder_1 3 rfl rfl)
theorem dX1_holder_26 : decode cX1_holder 26 = .ok (.getfield 231, 3) := dk_180 0 231 (dk_at dksX1_holder_1 4 rfl rfl)
theorem dX1_holder_29 : decode cX1_holder 29 = .ok (.ireturn, 1) := dk_172 (dk_at dksX1_holder_1 7 rfl rfl)
abbrev cX1_requireBlock : ByteArray := prog_1_method_26_code
def yX1_requireBlock : MethodName := ⟨RX1, "requireBlock", "(I)V"⟩
def dkwX1_requireBlock_0 : List UInt8 := [26, 3, 16, 15, 184, 0, 24, 184, 0, 147, 177]
abbrev dktX1_requireBlock_0 : List UInt8 := dkwX1_requireBlock_0 ++ []
theorem dksX1_requireBlock_0 : cX1_requireBlock.data.toList.drop 0 = dktX1_requireBlock_0 := by decide +kernel
theorem dX1_requireBlock_0 : decode cX1_requireBlock 0 = .ok (.iload_n 0, 1) := dk_26 (dk_at dksX1_requireBlock_0 0 rfl rfl)
theorem dX1_requireBlock_1 : decode cX1_requireBlock 1 = .ok (.iconst 0, 1) := dk_3 (dk_at dksX1_requireBlock_0 1 rfl rfl)
theorem dX1_requireBlock_2 : decode cX1_requireBlock 2 = .ok (.bipush 15, 2) := dk_16 15 (dk_at dksX1_requireBlock_0 2 rfl rfl)
theorem dX1_requireBlock_4 : decode cX1_requireBlock 4 = .ok (.invokestatic 24, 3) := dk_184 0 24 (dk_at dksX1_requireBlock_0 4 rfl rfl)
theorem dX1_requireBlock_7 : decode cX1_requireBlock 7 = .ok (.invokestatic 147, 3) := dk_184 0 147 (dk_at dksX1_requireBlock_0 7 rfl rfl)
theorem dX1_requireBlock_10 : decode cX1_requireBlock 10 = .ok (.return_, 1) := dk_177 (dk_at dksX1_requireBlock_0 10 rfl rfl)
abbrev cX1_requireElement : ByteArray := prog_1_method_4_code
def yX1_requireElement : MethodName := ⟨RX1, "requireElement", "(Z)V"⟩
def dkwX1_requireElement_0 : List UInt8 := [26, 154, 0, 11, 187, 0, 10, 89, 183, 0, 12, 191, 177]
abbrev dktX1_requireElement_0 : List UInt8 := dkwX1_requireElement_0 ++ []
theorem dksX1_requireElement_0 : cX1_requireElement.data.toList.drop 0 = dktX1_requireElement_0 := by decide +kernel
theorem dX1_requireElement_0 : decode cX1_requireElement 0 = .ok (.iload_n 0, 1) := dk_26 (dk_at dksX1_requireElement_0 0 rfl rfl)
theorem dX1_requireElement_1 : decode cX1_requireElement 1 = .ok (.ifCond .ne 11, 3) := dk_154 0 11 (dk_at dksX1_requireElement_0 1 rfl rfl)
theorem dX1_requireElement_4 : decode cX1_requireElement 4 = .ok (.new 10, 3) := dk_187 0 10 (dk_at dksX1_requireElement_0 4 rfl rfl)
theorem dX1_requireElement_7 : decode cX1_requireElement 7 = .ok (.dup, 1) := dk_89 (dk_at dksX1_requireElement_0 7 rfl rfl)
theorem dX1_requireElement_8 : decode cX1_requireElement 8 = .ok (.invokespecial 12, 3) := dk_183 0 12 (dk_at dksX1_requireElement_0 8 rfl rfl)
theorem dX1_requireElement_11 : decode cX1_requireElement 11 = .ok (.athrow, 1) := dk_191 (dk_at dksX1_requireElement_0 11 rfl rfl)
theorem dX1_requireElement_12 : decode cX1_requireElement 12 = .ok (.return_, 1) := dk_177 (dk_at dksX1_requireElement_0 12 rfl rfl)
abbrev cX1_comesTo : ByteArray := prog_1_method_33_code
def yX1_comesTo : MethodName := ⟨RX1, "comesTo", "(I)I"⟩
def dkwX1_comesTo_2 : List UInt8 := [172]
abbrev dktX1_comesTo_2 : List UInt8 := dkwX1_comesTo_2 ++ []
def dkwX1_comesTo_1 : List UInt8 := [180, 0, 54, 27, 182, 0, 234, 77, 44, 198, 0, 7, 4, 167, 0, 4, 3, 184, 0, 15, 44, 180, 0, 231]
abbrev dktX1_comesTo_1 : List UInt8 := dkwX1_comesTo_1 ++ dktX1_comesTo_2
def dkwX1_comesTo_0 : List UInt8 := [27, 184, 0, 224, 42, 180, 0, 54, 27, 182, 0, 227, 199, 0, 7, 4, 167, 0, 4, 3, 184, 0, 15, 42]
abbrev dktX1_comesTo_0 : List UInt8 := dkwX1_comesTo_0 ++ dktX1_comesTo_1
theorem dksX1_comesTo_0 : cX1_comesTo.data.toList.drop 0 = dktX1_comesTo_0 := by decide +kernel
theorem dksX1_comesTo_1 : cX1_comesTo.data.toList.drop 24 = dktX1_comesTo_1 := dk_seg dksX1_comesTo_0 24 rfl rfl
theorem dksX1_comesTo_2 : cX1_comesTo.data.toList.drop 48 = dktX1_comesTo_2 := dk_seg dksX1_comesTo_1 24 rfl rfl
theorem dX1_comesTo_0 : decode cX1_comesTo 0 = .ok (.iload_n 1, 1) := dk_27 (dk_at dksX1_comesTo_0 0 rfl rfl)
theorem dX1_comesTo_1 : decode cX1_comesTo 1 = .ok (.invokestatic 224, 3) := dk_184 0 224 (dk_at dksX1_comesTo_0 1 rfl rfl)
theorem dX1_comesTo_4 : decode cX1_comesTo 4 = .ok (.aload_n 0, 1) := dk_42 (dk_at dksX1_comesTo_0 4 rfl rfl)
theorem dX1_comesTo_5 : decode cX1_comesTo 5 = .ok (.getfield 54, 3) := dk_180 0 54 (dk_at dksX1_comesTo_0 5 rfl rfl)
theorem dX1_comesTo_8 : decode cX1_comesTo 8 = .ok (.iload_n 1, 1) := dk_27 (dk_at dksX1_comesTo_0 8 rfl rfl)
theorem dX1_comesTo_9 : decode cX1_comesTo 9 = .ok (.invokevirtual 227, 3) := dk_182 0 227 (dk_at dksX1_comesTo_0 9 rfl rfl)
theorem dX1_comesTo_12 : decode cX1_comesTo 12 = .ok (.ifnonnull 7, 3) := dk_199 0 7 (dk_at dksX1_comesTo_0 12 rfl rfl)
theorem dX1_comesTo_15 : decode cX1_comesTo 15 = .ok (.iconst 1, 1) := dk_4 (dk_at dksX1_comesTo_0 15 rfl rfl)
theorem dX1_comesTo_16 : decode cX1_comesTo 16 = .ok (.goto 4, 3) := dk_167 0 4 (dk_at dksX1_comesTo_0 16 rfl rfl)
theorem dX1_comesTo_19 : decode cX1_comesTo 19 = .ok (.iconst 0, 1) := dk_3 (dk_at dksX1_comesTo_0 19 rfl rfl)
theorem dX1_comesTo_20 : decode cX1_comesTo 20 = .ok (.invokestatic 15, 3) := dk_184 0 15 (dk_at dksX1_comesTo_0 20 rfl rfl)
theorem dX1_comesTo_23 : decode cX1_comesTo 23 = .ok (.aload_n 0, 1) := dk_42 (dk_at dksX1_comesTo_0 23 rfl rfl)
theorem dX1_comesTo_24 : decode cX1_comesTo 24 = .ok (.getfield 54, 3) := dk_180 0 54 (dk_at dksX1_comesTo_1 0 rfl rfl)
theorem dX1_comesTo_27 : decode cX1_comesTo 27 = .ok (.iload_n 1, 1) := dk_27 (dk_at dksX1_comesTo_1 3 rfl rfl)
theorem dX1_comesTo_28 : decode cX1_comesTo 28 = .ok (.invokevirtual 234, 3) := dk_182 0 234 (dk_at dksX1_comesTo_1 4 rfl rfl)
theorem dX1_comesTo_31 : decode cX1_comesTo 31 = .ok (.astore_n 2, 1) := dk_77 (dk_at dksX1_comesTo_1 7 rfl rfl)
theorem dX1_comesTo_32 : decode cX1_comesTo 32 = .ok (.aload_n 2, 1) := dk_44 (dk_at dksX1_comesTo_1 8 rfl rfl)
theorem dX1_comesTo_33 : decode cX1_comesTo 33 = .ok (.ifnull 7, 3) := dk_198 0 7 (dk_at dksX1_comesTo_1 9 rfl rfl)
theorem dX1_comesTo_36 : decode cX1_comesTo 36 = .ok (.iconst 1, 1) := dk_4 (dk_at dksX1_comesTo_1 12 rfl rfl)
theorem dX1_comesTo_37 : decode cX1_comesTo 37 = .ok (.goto 4, 3) := dk_167 0 4 (dk_at dksX1_comesTo_1 13 rfl rfl)
theorem dX1_comesTo_40 : decode cX1_comesTo 40 = .ok (.iconst 0, 1) := dk_3 (dk_at dksX1_comesTo_1 16 rfl rfl)
theorem dX1_comesTo_41 : decode cX1_comesTo 41 = .ok (.invokestatic 15, 3) := dk_184 0 15 (dk_at dksX1_comesTo_1 17 rfl rfl)
theorem dX1_comesTo_44 : decode cX1_comesTo 44 = .ok (.aload_n 2, 1) := dk_44 (dk_at dksX1_comesTo_1 20 rfl rfl)
theorem dX1_comesTo_45 : decode cX1_comesTo 45 = .ok (.getfield 231, 3) := dk_180 0 231 (dk_at dksX1_comesTo_1 21 rfl rfl)
theorem dX1_comesTo_48 : decode cX1_comesTo 48 = .ok (.ireturn, 1) := dk_172 (dk_at dksX1_comesTo_2 0 rfl rfl)
abbrev cX1_giving : ByteArray := prog_1_method_34_code
def yX1_giving : MethodName := ⟨RX1, "giving", "(II)I"⟩
def dkwX1_giving_1 : List UInt8 := [184, 0, 24, 184, 0, 15, 45, 28, 185, 0, 198, 2, 0, 192, 0, 201, 180, 0, 231, 172]
abbrev dktX1_giving_1 : List UInt8 := dkwX1_giving_1 ++ []
def dkwX1_giving_0 : List UInt8 := [42, 27, 182, 0, 192, 42, 180, 0, 54, 27, 182, 0, 237, 78, 28, 3, 45, 185, 0, 154, 1, 0, 4, 100]
abbrev dktX1_giving_0 : List UInt8 := dkwX1_giving_0 ++ dktX1_giving_1
theorem dksX1_giving_0 : cX1_giving.data.toList.drop 0 = dktX1_giving_0 := by decide +kernel
theorem dksX1_giving_1 : cX1_giving.data.toList.drop 24 = dktX1_giving_1 := dk_seg dksX1_giving_0 24 rfl rfl
theorem dX1_giving_0 : decode cX1_giving 0 = .ok (.aload_n 0, 1) := dk_42 (dk_at dksX1_giving_0 0 rfl rfl)
theorem dX1_giving_1 : decode cX1_giving 1 = .ok (.iload_n 1, 1) := dk_27 (dk_at dksX1_giving_0 1 rfl rfl)
theorem dX1_giving_2 : decode cX1_giving 2 = .ok (.invokevirtual 192, 3) := dk_182 0 192 (dk_at dksX1_giving_0 2 rfl rfl)
theorem dX1_giving_5 : decode cX1_giving 5 = .ok (.aload_n 0, 1) := dk_42 (dk_at dksX1_giving_0 5 rfl rfl)
theorem dX1_giving_6 : decode cX1_giving 6 = .ok (.getfield 54, 3) := dk_180 0 54 (dk_at dksX1_giving_0 6 rfl rfl)
theorem dX1_giving_9 : decode cX1_giving 9 = .ok (.iload_n 1, 1) := dk_27 (dk_at dksX1_giving_0 9 rfl rfl)
theorem dX1_giving_10 : decode cX1_giving 10 = .ok (.invokevirtual 237, 3) := dk_182 0 237 (dk_at dksX1_giving_0 10 rfl rfl)
theorem dX1_giving_13 : decode cX1_giving 13 = .ok (.astore_n 3, 1) := dk_78 (dk_at dksX1_giving_0 13 rfl rfl)
theorem dX1_giving_14 : decode cX1_giving 14 = .ok (.iload_n 2, 1) := dk_28 (dk_at dksX1_giving_0 14 rfl rfl)
theorem dX1_giving_15 : decode cX1_giving 15 = .ok (.iconst 0, 1) := dk_3 (dk_at dksX1_giving_0 15 rfl rfl)
theorem dX1_giving_16 : decode cX1_giving 16 = .ok (.aload_n 3, 1) := dk_45 (dk_at dksX1_giving_0 16 rfl rfl)
theorem dX1_giving_17 : decode cX1_giving 17 = .ok (.invokeinterface 154 1, 5) := by decide +kernel
theorem dX1_giving_22 : decode cX1_giving 22 = .ok (.iconst 1, 1) := dk_4 (dk_at dksX1_giving_0 22 rfl rfl)
theorem dX1_giving_23 : decode cX1_giving 23 = .ok (.isub, 1) := dk_100 (dk_at dksX1_giving_0 23 rfl rfl)
theorem dX1_giving_24 : decode cX1_giving 24 = .ok (.invokestatic 24, 3) := dk_184 0 24 (dk_at dksX1_giving_1 0 rfl rfl)
theorem dX1_giving_27 : decode cX1_giving 27 = .ok (.invokestatic 15, 3) := dk_184 0 15 (dk_at dksX1_giving_1 3 rfl rfl)
theorem dX1_giving_30 : decode cX1_giving 30 = .ok (.aload_n 3, 1) := dk_45 (dk_at dksX1_giving_1 6 rfl rfl)
theorem dX1_giving_31 : decode cX1_giving 31 = .ok (.iload_n 2, 1) := dk_28 (dk_at dksX1_giving_1 7 rfl rfl)
theorem dX1_giving_32 : decode cX1_giving 32 = .ok (.invokeinterface 198 2, 5) := by decide +kernel
theorem dX1_giving_37 : decode cX1_giving 37 = .ok (.checkcast 201, 3) := dk_192 0 201 (dk_at dksX1_giving_1 13 rfl rfl)
theorem dX1_giving_40 : decode cX1_giving 40 = .ok (.getfield 231, 3) := dk_180 0 231 (dk_at dksX1_giving_1 16 rfl rfl)
theorem dX1_giving_43 : decode cX1_giving 43 = .ok (.ireturn, 1) := dk_172 (dk_at dksX1_giving_1 19 rfl rfl)
abbrev cX1_wouldTake : ByteArray := prog_1_method_35_code
def yX1_wouldTake : MethodName := ⟨RX1, "wouldTake", "(I)I"⟩
def dkwX1_wouldTake_0 : List UInt8 := [27, 184, 0, 157, 42, 180, 0, 54, 27, 182, 0, 241, 184, 0, 244, 172]
abbrev dktX1_wouldTake_0 : List UInt8 := dkwX1_wouldTake_0 ++ []
theorem dksX1_wouldTake_0 : cX1_wouldTake.data.toList.drop 0 = dktX1_wouldTake_0 := by decide +kernel
theorem dX1_wouldTake_0 : decode cX1_wouldTake 0 = .ok (.iload_n 1, 1) := dk_27 (dk_at dksX1_wouldTake_0 0 rfl rfl)
theorem dX1_wouldTake_1 : decode cX1_wouldTake 1 = .ok (.invokestatic 157, 3) := dk_184 0 157 (dk_at dksX1_wouldTake_0 1 rfl rfl)
theorem dX1_wouldTake_4 : decode cX1_wouldTake 4 = .ok (.aload_n 0, 1) := dk_42 (dk_at dksX1_wouldTake_0 4 rfl rfl)
theorem dX1_wouldTake_5 : decode cX1_wouldTake 5 = .ok (.getfield 54, 3) := dk_180 0 54 (dk_at dksX1_wouldTake_0 5 rfl rfl)
theorem dX1_wouldTake_8 : decode cX1_wouldTake 8 = .ok (.iload_n 1, 1) := dk_27 (dk_at dksX1_wouldTake_0 8 rfl rfl)
theorem dX1_wouldTake_9 : decode cX1_wouldTake 9 = .ok (.invokevirtual 241, 3) := dk_182 0 241 (dk_at dksX1_wouldTake_0 9 rfl rfl)
theorem dX1_wouldTake_12 : decode cX1_wouldTake 12 = .ok (.invokestatic 244, 3) := dk_184 0 244 (dk_at dksX1_wouldTake_0 12 rfl rfl)
theorem dX1_wouldTake_15 : decode cX1_wouldTake 15 = .ok (.ireturn, 1) := dk_172 (dk_at dksX1_wouldTake_0 15 rfl rfl)
abbrev cX1_existing : ByteArray := prog_1_method_5_code
def yX1_existing : MethodName := ⟨RX1, "existing", "(I)I"⟩
def dkwX1_existing_0 : List UInt8 := [26, 2, 159, 0, 7, 4, 167, 0, 4, 3, 184, 0, 15, 26, 172]
abbrev dktX1_existing_0 : List UInt8 := dkwX1_existing_0 ++ []
theorem dksX1_existing_0 : cX1_existing.data.toList.drop 0 = dktX1_existing_0 := by decide +kernel
theorem dX1_existing_0 : decode cX1_existing 0 = .ok (.iload_n 0, 1) := dk_26 (dk_at dksX1_existing_0 0 rfl rfl)
theorem dX1_existing_1 : decode cX1_existing 1 = .ok (.iconst (-1), 1) := dk_2 (dk_at dksX1_existing_0 1 rfl rfl)
theorem dX1_existing_2 : decode cX1_existing 2 = .ok (.if_icmp .eq 7, 3) := dk_159 0 7 (dk_at dksX1_existing_0 2 rfl rfl)
theorem dX1_existing_5 : decode cX1_existing 5 = .ok (.iconst 1, 1) := dk_4 (dk_at dksX1_existing_0 5 rfl rfl)
theorem dX1_existing_6 : decode cX1_existing 6 = .ok (.goto 4, 3) := dk_167 0 4 (dk_at dksX1_existing_0 6 rfl rfl)
theorem dX1_existing_9 : decode cX1_existing 9 = .ok (.iconst 0, 1) := dk_3 (dk_at dksX1_existing_0 9 rfl rfl)
theorem dX1_existing_10 : decode cX1_existing 10 = .ok (.invokestatic 15, 3) := dk_184 0 15 (dk_at dksX1_existing_0 10 rfl rfl)
theorem dX1_existing_13 : decode cX1_existing 13 = .ok (.iload_n 0, 1) := dk_26 (dk_at dksX1_existing_0 13 rfl rfl)
theorem dX1_existing_14 : decode cX1_existing 14 = .ok (.ireturn, 1) := dk_172 (dk_at dksX1_existing_0 14 rfl rfl)
abbrev cX1_causeOf : ByteArray := prog_1_method_36_code
def yX1_causeOf : MethodName := ⟨RX1, "causeOf", "(I)I"⟩
def dkwX1_causeOf_1 : List UInt8 := [180, 0, 54, 27, 182, 0, 247, 172]
abbrev dktX1_causeOf_1 : List UInt8 := dkwX1_causeOf_1 ++ []
def dkwX1_causeOf_0 : List UInt8 := [27, 184, 0, 224, 42, 180, 0, 54, 27, 182, 0, 227, 199, 0, 7, 4, 167, 0, 4, 3, 184, 0, 15, 42]
abbrev dktX1_causeOf_0 : List UInt8 := dkwX1_causeOf_0 ++ dktX1_causeOf_1
theorem dksX1_causeOf_0 : cX1_causeOf.data.toList.drop 0 = dktX1_causeOf_0 := by decide +kernel
theorem dksX1_causeOf_1 : cX1_causeOf.data.toList.drop 24 = dktX1_causeOf_1 := dk_seg dksX1_causeOf_0 24 rfl rfl
theorem dX1_causeOf_0 : decode cX1_causeOf 0 = .ok (.iload_n 1, 1) := dk_27 (dk_at dksX1_causeOf_0 0 rfl rfl)
theorem dX1_causeOf_1 : decode cX1_causeOf 1 = .ok (.invokestatic 224, 3) := dk_184 0 224 (dk_at dksX1_causeOf_0 1 rfl rfl)
theorem dX1_causeOf_4 : decode cX1_causeOf 4 = .ok (.aload_n 0, 1) := dk_42 (dk_at dksX1_causeOf_0 4 rfl rfl)
theorem dX1_causeOf_5 : decode cX1_causeOf 5 = .ok (.getfield 54, 3) := dk_180 0 54 (dk_at dksX1_causeOf_0 5 rfl rfl)
theorem dX1_causeOf_8 : decode cX1_causeOf 8 = .ok (.iload_n 1, 1) := dk_27 (dk_at dksX1_causeOf_0 8 rfl rfl)
theorem dX1_causeOf_9 : decode cX1_causeOf 9 = .ok (.invokevirtual 227, 3) := dk_182 0 227 (dk_at dksX1_causeOf_0 9 rfl rfl)
theorem dX1_causeOf_12 : decode cX1_causeOf 12 = .ok (.ifnonnull 7, 3) := dk_199 0 7 (dk_at dksX1_causeOf_0 12 rfl rfl)
theorem dX1_causeOf_15 : decode cX1_causeOf 15 = .ok (.iconst 1, 1) := dk_4 (dk_at dksX1_causeOf_0 15 rfl rfl)
theorem dX1_causeOf_16 : decode cX1_causeOf 16 = .ok (.goto 4, 3) := dk_167 0 4 (dk_at dksX1_causeOf_0 16 rfl rfl)
theorem dX1_causeOf_19 : decode cX1_causeOf 19 = .ok (.iconst 0, 1) := dk_3 (dk_at dksX1_causeOf_0 19 rfl rfl)
theorem dX1_causeOf_20 : decode cX1_causeOf 20 = .ok (.invokestatic 15, 3) := dk_184 0 15 (dk_at dksX1_causeOf_0 20 rfl rfl)
theorem dX1_causeOf_23 : decode cX1_causeOf 23 = .ok (.aload_n 0, 1) := dk_42 (dk_at dksX1_causeOf_0 23 rfl rfl)
theorem dX1_causeOf_24 : decode cX1_causeOf 24 = .ok (.getfield 54, 3) := dk_180 0 54 (dk_at dksX1_causeOf_1 0 rfl rfl)
theorem dX1_causeOf_27 : decode cX1_causeOf 27 = .ok (.iload_n 1, 1) := dk_27 (dk_at dksX1_causeOf_1 3 rfl rfl)
theorem dX1_causeOf_28 : decode cX1_causeOf 28 = .ok (.invokevirtual 247, 3) := dk_182 0 247 (dk_at dksX1_causeOf_1 4 rfl rfl)
theorem dX1_causeOf_31 : decode cX1_causeOf 31 = .ok (.ireturn, 1) := dk_172 (dk_at dksX1_causeOf_1 7 rfl rfl)
abbrev cX1_freeIn : ByteArray := prog_1_method_37_code
def yX1_freeIn : MethodName := ⟨RX1, "freeIn", "(I)I"⟩
def dkwX1_freeIn_1 : List UInt8 := [180, 0, 253, 100, 184, 1, 0, 172]
abbrev dktX1_freeIn_1 : List UInt8 := dkwX1_freeIn_1 ++ []
def dkwX1_freeIn_0 : List UInt8 := [27, 3, 6, 184, 0, 24, 184, 0, 147, 3, 42, 180, 0, 54, 180, 0, 250, 27, 46, 42, 180, 0, 54]
abbrev dktX1_freeIn_0 : List UInt8 := dkwX1_freeIn_0 ++ dktX1_freeIn_1
theorem dksX1_freeIn_0 : cX1_freeIn.data.toList.drop 0 = dktX1_freeIn_0 := by decide +kernel
theorem dksX1_freeIn_1 : cX1_freeIn.data.toList.drop 23 = dktX1_freeIn_1 := dk_seg dksX1_freeIn_0 23 rfl rfl
theorem dX1_freeIn_0 : decode cX1_freeIn 0 = .ok (.iload_n 1, 1) := dk_27 (dk_at dksX1_freeIn_0 0 rfl rfl)
theorem dX1_freeIn_1 : decode cX1_freeIn 1 = .ok (.iconst 0, 1) := dk_3 (dk_at dksX1_freeIn_0 1 rfl rfl)
theorem dX1_freeIn_2 : decode cX1_freeIn 2 = .ok (.iconst 3, 1) := dk_6 (dk_at dksX1_freeIn_0 2 rfl rfl)
theorem dX1_freeIn_3 : decode cX1_freeIn 3 = .ok (.invokestatic 24, 3) := dk_184 0 24 (dk_at dksX1_freeIn_0 3 rfl rfl)
theorem dX1_freeIn_6 : decode cX1_freeIn 6 = .ok (.invokestatic 147, 3) := dk_184 0 147 (dk_at dksX1_freeIn_0 6 rfl rfl)
theorem dX1_freeIn_9 : decode cX1_freeIn 9 = .ok (.iconst 0, 1) := dk_3 (dk_at dksX1_freeIn_0 9 rfl rfl)
theorem dX1_freeIn_10 : decode cX1_freeIn 10 = .ok (.aload_n 0, 1) := dk_42 (dk_at dksX1_freeIn_0 10 rfl rfl)
theorem dX1_freeIn_11 : decode cX1_freeIn 11 = .ok (.getfield 54, 3) := dk_180 0 54 (dk_at dksX1_freeIn_0 11 rfl rfl)
theorem dX1_freeIn_14 : decode cX1_freeIn 14 = .ok (.getfield 250, 3) := dk_180 0 250 (dk_at dksX1_freeIn_0 14 rfl rfl)
theorem dX1_freeIn_17 : decode cX1_freeIn 17 = .ok (.iload_n 1, 1) := dk_27 (dk_at dksX1_freeIn_0 17 rfl rfl)
theorem dX1_freeIn_18 : decode cX1_freeIn 18 = .ok (.iaload, 1) := dk_46 (dk_at dksX1_freeIn_0 18 rfl rfl)
theorem dX1_freeIn_19 : decode cX1_freeIn 19 = .ok (.aload_n 0, 1) := dk_42 (dk_at dksX1_freeIn_0 19 rfl rfl)
theorem dX1_freeIn_20 : decode cX1_freeIn 20 = .ok (.getfield 54, 3) := dk_180 0 54 (dk_at dksX1_freeIn_0 20 rfl rfl)
theorem dX1_freeIn_23 : decode cX1_freeIn 23 = .ok (.getfield 253, 3) := dk_180 0 253 (dk_at dksX1_freeIn_1 0 rfl rfl)
theorem dX1_freeIn_26 : decode cX1_freeIn 26 = .ok (.isub, 1) := dk_100 (dk_at dksX1_freeIn_1 3 rfl rfl)
theorem dX1_freeIn_27 : decode cX1_freeIn 27 = .ok (.invokestatic 256, 3) := dk_184 1 0 (dk_at dksX1_freeIn_1 4 rfl rfl)
theorem dX1_freeIn_30 : decode cX1_freeIn 30 = .ok (.ireturn, 1) := dk_172 (dk_at dksX1_freeIn_1 7 rfl rfl)
abbrev cX1_latest : ByteArray := prog_1_method_38_code
def yX1_latest : MethodName := ⟨RX1, "latest", "(I)I"⟩
def dkwX1_latest_1 : List UInt8 := [180, 1, 6, 27, 182, 1, 12, 192, 0, 170, 182, 0, 185, 172]
abbrev dktX1_latest_1 : List UInt8 := dkwX1_latest_1 ++ []
def dkwX1_latest_0 : List UInt8 := [27, 3, 42, 180, 0, 54, 180, 1, 6, 182, 1, 9, 4, 100, 184, 0, 24, 184, 0, 15, 42, 180, 0, 54]
abbrev dktX1_latest_0 : List UInt8 := dkwX1_latest_0 ++ dktX1_latest_1
theorem dksX1_latest_0 : cX1_latest.data.toList.drop 0 = dktX1_latest_0 := by decide +kernel
theorem dksX1_latest_1 : cX1_latest.data.toList.drop 24 = dktX1_latest_1 := dk_seg dksX1_latest_0 24 rfl rfl
theorem dX1_latest_0 : decode cX1_latest 0 = .ok (.iload_n 1, 1) := dk_27 (dk_at dksX1_latest_0 0 rfl rfl)
theorem dX1_latest_1 : decode cX1_latest 1 = .ok (.iconst 0, 1) := dk_3 (dk_at dksX1_latest_0 1 rfl rfl)
theorem dX1_latest_2 : decode cX1_latest 2 = .ok (.aload_n 0, 1) := dk_42 (dk_at dksX1_latest_0 2 rfl rfl)
theorem dX1_latest_3 : decode cX1_latest 3 = .ok (.getfield 54, 3) := dk_180 0 54 (dk_at dksX1_latest_0 3 rfl rfl)
theorem dX1_latest_6 : decode cX1_latest 6 = .ok (.getfield 262, 3) := dk_180 1 6 (dk_at dksX1_latest_0 6 rfl rfl)
theorem dX1_latest_9 : decode cX1_latest 9 = .ok (.invokevirtual 265, 3) := dk_182 1 9 (dk_at dksX1_latest_0 9 rfl rfl)
theorem dX1_latest_12 : decode cX1_latest 12 = .ok (.iconst 1, 1) := dk_4 (dk_at dksX1_latest_0 12 rfl rfl)
theorem dX1_latest_13 : decode cX1_latest 13 = .ok (.isub, 1) := dk_100 (dk_at dksX1_latest_0 13 rfl rfl)
theorem dX1_latest_14 : decode cX1_latest 14 = .ok (.invokestatic 24, 3) := dk_184 0 24 (dk_at dksX1_latest_0 14 rfl rfl)
theorem dX1_latest_17 : decode cX1_latest 17 = .ok (.invokestatic 15, 3) := dk_184 0 15 (dk_at dksX1_latest_0 17 rfl rfl)
theorem dX1_latest_20 : decode cX1_latest 20 = .ok (.aload_n 0, 1) := dk_42 (dk_at dksX1_latest_0 20 rfl rfl)
theorem dX1_latest_21 : decode cX1_latest 21 = .ok (.getfield 54, 3) := dk_180 0 54 (dk_at dksX1_latest_0 21 rfl rfl)
theorem dX1_latest_24 : decode cX1_latest 24 = .ok (.getfield 262, 3) := dk_180 1 6 (dk_at dksX1_latest_1 0 rfl rfl)
theorem dX1_latest_27 : decode cX1_latest 27 = .ok (.iload_n 1, 1) := dk_27 (dk_at dksX1_latest_1 3 rfl rfl)
theorem dX1_latest_28 : decode cX1_latest 28 = .ok (.invokevirtual 268, 3) := dk_182 1 12 (dk_at dksX1_latest_1 4 rfl rfl)
theorem dX1_latest_31 : decode cX1_latest 31 = .ok (.checkcast 170, 3) := dk_192 0 170 (dk_at dksX1_latest_1 7 rfl rfl)
theorem dX1_latest_34 : decode cX1_latest 34 = .ok (.invokevirtual 185, 3) := dk_182 0 185 (dk_at dksX1_latest_1 10 rfl rfl)
theorem dX1_latest_37 : decode cX1_latest 37 = .ok (.ireturn, 1) := dk_172 (dk_at dksX1_latest_1 13 rfl rfl)
abbrev cX1_ranked : ByteArray := prog_1_method_39_code
def yX1_ranked : MethodName := ⟨RX1, "ranked", "(I)I"⟩
def dkwX1_ranked_0 : List UInt8 := [42, 180, 0, 54, 27, 182, 1, 13, 184, 0, 244, 172]
abbrev dktX1_ranked_0 : List UInt8 := dkwX1_ranked_0 ++ []
theorem dksX1_ranked_0 : cX1_ranked.data.toList.drop 0 = dktX1_ranked_0 := by decide +kernel
theorem dX1_ranked_0 : decode cX1_ranked 0 = .ok (.aload_n 0, 1) := dk_42 (dk_at dksX1_ranked_0 0 rfl rfl)
theorem dX1_ranked_1 : decode cX1_ranked 1 = .ok (.getfield 54, 3) := dk_180 0 54 (dk_at dksX1_ranked_0 1 rfl rfl)
theorem dX1_ranked_4 : decode cX1_ranked 4 = .ok (.iload_n 1, 1) := dk_27 (dk_at dksX1_ranked_0 4 rfl rfl)
theorem dX1_ranked_5 : decode cX1_ranked 5 = .ok (.invokevirtual 269, 3) := dk_182 1 13 (dk_at dksX1_ranked_0 5 rfl rfl)
theorem dX1_ranked_8 : decode cX1_ranked 8 = .ok (.invokestatic 244, 3) := dk_184 0 244 (dk_at dksX1_ranked_0 8 rfl rfl)
theorem dX1_ranked_11 : decode cX1_ranked 11 = .ok (.ireturn, 1) := dk_172 (dk_at dksX1_ranked_0 11 rfl rfl)
abbrev cX1_nextDirty : ByteArray := prog_1_method_40_code
def yX1_nextDirty : MethodName := ⟨RX1, "nextDirty", "(I)I"⟩
def dkwX1_nextDirty_0 : List UInt8 := [27, 184, 0, 157, 42, 180, 0, 54, 27, 182, 1, 16, 184, 0, 244, 172]
abbrev dktX1_nextDirty_0 : List UInt8 := dkwX1_nextDirty_0 ++ []
theorem dksX1_nextDirty_0 : cX1_nextDirty.data.toList.drop 0 = dktX1_nextDirty_0 := by decide +kernel
theorem dX1_nextDirty_0 : decode cX1_nextDirty 0 = .ok (.iload_n 1, 1) := dk_27 (dk_at dksX1_nextDirty_0 0 rfl rfl)
theorem dX1_nextDirty_1 : decode cX1_nextDirty 1 = .ok (.invokestatic 157, 3) := dk_184 0 157 (dk_at dksX1_nextDirty_0 1 rfl rfl)
theorem dX1_nextDirty_4 : decode cX1_nextDirty 4 = .ok (.aload_n 0, 1) := dk_42 (dk_at dksX1_nextDirty_0 4 rfl rfl)
theorem dX1_nextDirty_5 : decode cX1_nextDirty 5 = .ok (.getfield 54, 3) := dk_180 0 54 (dk_at dksX1_nextDirty_0 5 rfl rfl)
theorem dX1_nextDirty_8 : decode cX1_nextDirty 8 = .ok (.iload_n 1, 1) := dk_27 (dk_at dksX1_nextDirty_0 8 rfl rfl)
theorem dX1_nextDirty_9 : decode cX1_nextDirty 9 = .ok (.invokevirtual 272, 3) := dk_182 1 16 (dk_at dksX1_nextDirty_0 9 rfl rfl)
theorem dX1_nextDirty_12 : decode cX1_nextDirty 12 = .ok (.invokestatic 244, 3) := dk_184 0 244 (dk_at dksX1_nextDirty_0 12 rfl rfl)
theorem dX1_nextDirty_15 : decode cX1_nextDirty 15 = .ok (.ireturn, 1) := dk_172 (dk_at dksX1_nextDirty_0 15 rfl rfl)
abbrev cX1_feed : ByteArray := prog_1_method_41_code
def yX1_feed : MethodName := ⟨RX1, "feed", "(C)I"⟩
def dkwX1_feed_1 : List UInt8 := [27, 182, 1, 25, 87, 42, 180, 0, 68, 182, 1, 19, 172]
abbrev dktX1_feed_1 : List UInt8 := dkwX1_feed_1 ++ []
def dkwX1_feed_0 : List UInt8 := [42, 180, 0, 68, 182, 1, 19, 16, 60, 162, 0, 7, 4, 167, 0, 4, 3, 184, 1, 22, 42, 180, 0, 68]
abbrev dktX1_feed_0 : List UInt8 := dkwX1_feed_0 ++ dktX1_feed_1
theorem dksX1_feed_0 : cX1_feed.data.toList.drop 0 = dktX1_feed_0 := by decide +kernel
theorem dksX1_feed_1 : cX1_feed.data.toList.drop 24 = dktX1_feed_1 := dk_seg dksX1_feed_0 24 rfl rfl
theorem dX1_feed_0 : decode cX1_feed 0 = .ok (.aload_n 0, 1) := dk_42 (dk_at dksX1_feed_0 0 rfl rfl)
theorem dX1_feed_1 : decode cX1_feed 1 = .ok (.getfield 68, 3) := dk_180 0 68 (dk_at dksX1_feed_0 1 rfl rfl)
theorem dX1_feed_4 : decode cX1_feed 4 = .ok (.invokevirtual 275, 3) := dk_182 1 19 (dk_at dksX1_feed_0 4 rfl rfl)
theorem dX1_feed_7 : decode cX1_feed 7 = .ok (.bipush 60, 2) := dk_16 60 (dk_at dksX1_feed_0 7 rfl rfl)
theorem dX1_feed_9 : decode cX1_feed 9 = .ok (.if_icmp .ge 7, 3) := dk_162 0 7 (dk_at dksX1_feed_0 9 rfl rfl)
theorem dX1_feed_12 : decode cX1_feed 12 = .ok (.iconst 1, 1) := dk_4 (dk_at dksX1_feed_0 12 rfl rfl)
theorem dX1_feed_13 : decode cX1_feed 13 = .ok (.goto 4, 3) := dk_167 0 4 (dk_at dksX1_feed_0 13 rfl rfl)
theorem dX1_feed_16 : decode cX1_feed 16 = .ok (.iconst 0, 1) := dk_3 (dk_at dksX1_feed_0 16 rfl rfl)
theorem dX1_feed_17 : decode cX1_feed 17 = .ok (.invokestatic 278, 3) := dk_184 1 22 (dk_at dksX1_feed_0 17 rfl rfl)
theorem dX1_feed_20 : decode cX1_feed 20 = .ok (.aload_n 0, 1) := dk_42 (dk_at dksX1_feed_0 20 rfl rfl)
theorem dX1_feed_21 : decode cX1_feed 21 = .ok (.getfield 68, 3) := dk_180 0 68 (dk_at dksX1_feed_0 21 rfl rfl)
theorem dX1_feed_24 : decode cX1_feed 24 = .ok (.iload_n 1, 1) := dk_27 (dk_at dksX1_feed_1 0 rfl rfl)
theorem dX1_feed_25 : decode cX1_feed 25 = .ok (.invokevirtual 281, 3) := dk_182 1 25 (dk_at dksX1_feed_1 1 rfl rfl)
theorem dX1_feed_28 : decode cX1_feed 28 = .ok (.pop, 1) := dk_87 (dk_at dksX1_feed_1 4 rfl rfl)
theorem dX1_feed_29 : decode cX1_feed 29 = .ok (.aload_n 0, 1) := dk_42 (dk_at dksX1_feed_1 5 rfl rfl)
theorem dX1_feed_30 : decode cX1_feed 30 = .ok (.getfield 68, 3) := dk_180 0 68 (dk_at dksX1_feed_1 6 rfl rfl)
theorem dX1_feed_33 : decode cX1_feed 33 = .ok (.invokevirtual 275, 3) := dk_182 1 19 (dk_at dksX1_feed_1 9 rfl rfl)
theorem dX1_feed_36 : decode cX1_feed 36 = .ok (.ireturn, 1) := dk_172 (dk_at dksX1_feed_1 12 rfl rfl)
abbrev cX1_requireState : ByteArray := prog_1_method_3_code
def yX1_requireState : MethodName := ⟨RX1, "requireState", "(Z)V"⟩
def dkwX1_requireState_0 : List UInt8 := [26, 154, 0, 11, 187, 0, 7, 89, 183, 0, 9, 191, 177]
abbrev dktX1_requireState_0 : List UInt8 := dkwX1_requireState_0 ++ []
theorem dksX1_requireState_0 : cX1_requireState.data.toList.drop 0 = dktX1_requireState_0 := by decide +kernel
theorem dX1_requireState_0 : decode cX1_requireState 0 = .ok (.iload_n 0, 1) := dk_26 (dk_at dksX1_requireState_0 0 rfl rfl)
theorem dX1_requireState_1 : decode cX1_requireState 1 = .ok (.ifCond .ne 11, 3) := dk_154 0 11 (dk_at dksX1_requireState_0 1 rfl rfl)
theorem dX1_requireState_4 : decode cX1_requireState 4 = .ok (.new 7, 3) := dk_187 0 7 (dk_at dksX1_requireState_0 4 rfl rfl)
theorem dX1_requireState_7 : decode cX1_requireState 7 = .ok (.dup, 1) := dk_89 (dk_at dksX1_requireState_0 7 rfl rfl)
theorem dX1_requireState_8 : decode cX1_requireState 8 = .ok (.invokespecial 9, 3) := dk_183 0 9 (dk_at dksX1_requireState_0 8 rfl rfl)
theorem dX1_requireState_11 : decode cX1_requireState 11 = .ok (.athrow, 1) := dk_191 (dk_at dksX1_requireState_0 11 rfl rfl)
theorem dX1_requireState_12 : decode cX1_requireState 12 = .ok (.return_, 1) := dk_177 (dk_at dksX1_requireState_0 12 rfl rfl)
abbrev cX1_run : ByteArray := prog_1_method_43_code
def yX1_run : MethodName := ⟨RX1, "run", "()I"⟩
def dkwX1_run_3 : List UInt8 := [181, 0, 108, 187, 0, 112, 89, 183, 0, 114, 191, 42, 44, 182, 0, 105, 29, 172]
abbrev dktX1_run_3 : List UInt8 := dkwX1_run_3 ++ []
def dkwX1_run_2 : List UInt8 := [132, 3, 1, 167, 255, 227, 167, 0, 29, 58, 4, 42, 187, 0, 19, 89, 16, 7, 29, 25, 4, 183, 1, 53]
abbrev dktX1_run_2 : List UInt8 := dkwX1_run_2 ++ dktX1_run_3
def dkwX1_run_1 : List UInt8 := [185, 0, 154, 1, 0, 162, 0, 25, 43, 29, 185, 0, 198, 2, 0, 192, 0, 100, 44, 182, 0, 99, 54, 4]
abbrev dktX1_run_1 : List UInt8 := dkwX1_run_1 ++ dktX1_run_2
def dkwX1_run_0 : List UInt8 := [42, 182, 1, 50, 76, 187, 0, 51, 89, 42, 180, 0, 54, 183, 0, 96, 77, 3, 62, 29, 43]
abbrev dktX1_run_0 : List UInt8 := dkwX1_run_0 ++ dktX1_run_1
theorem dksX1_run_0 : cX1_run.data.toList.drop 0 = dktX1_run_0 := by decide +kernel
theorem dksX1_run_1 : cX1_run.data.toList.drop 21 = dktX1_run_1 := dk_seg dksX1_run_0 21 rfl rfl
theorem dksX1_run_2 : cX1_run.data.toList.drop 45 = dktX1_run_2 := dk_seg dksX1_run_1 24 rfl rfl
theorem dksX1_run_3 : cX1_run.data.toList.drop 69 = dktX1_run_3 := dk_seg dksX1_run_2 24 rfl rfl
theorem dX1_run_0 : decode cX1_run 0 = .ok (.aload_n 0, 1) := dk_42 (dk_at dksX1_run_0 0 rfl rfl)
theorem dX1_run_1 : decode cX1_run 1 = .ok (.invokevirtual 306, 3) := dk_182 1 50 (dk_at dksX1_run_0 1 rfl rfl)
theorem dX1_run_4 : decode cX1_run 4 = .ok (.astore_n 1, 1) := dk_76 (dk_at dksX1_run_0 4 rfl rfl)
theorem dX1_run_5 : decode cX1_run 5 = .ok (.new 51, 3) := dk_187 0 51 (dk_at dksX1_run_0 5 rfl rfl)
theorem dX1_run_8 : decode cX1_run 8 = .ok (.dup, 1) := dk_89 (dk_at dksX1_run_0 8 rfl rfl)
theorem dX1_run_9 : decode cX1_run 9 = .ok (.aload_n 0, 1) := dk_42 (dk_at dksX1_run_0 9 rfl rfl)
theorem dX1_run_10 : decode cX1_run 10 = .ok (.getfield 54, 3) := dk_180 0 54 (dk_at dksX1_run_0 10 rfl rfl)
theorem dX1_run_13 : decode cX1_run 13 = .ok (.invokespecial 96, 3) := dk_183 0 96 (dk_at dksX1_run_0 13 rfl rfl)
theorem dX1_run_16 : decode cX1_run 16 = .ok (.astore_n 2, 1) := dk_77 (dk_at dksX1_run_0 16 rfl rfl)
theorem dX1_run_17 : decode cX1_run 17 = .ok (.iconst 0, 1) := dk_3 (dk_at dksX1_run_0 17 rfl rfl)
theorem dX1_run_18 : decode cX1_run 18 = .ok (.istore_n 3, 1) := dk_62 (dk_at dksX1_run_0 18 rfl rfl)
theorem dX1_run_19 : decode cX1_run 19 = .ok (.iload_n 3, 1) := dk_29 (dk_at dksX1_run_0 19 rfl rfl)
theorem dX1_run_20 : decode cX1_run 20 = .ok (.aload_n 1, 1) := dk_43 (dk_at dksX1_run_0 20 rfl rfl)
theorem dX1_run_21 : decode cX1_run 21 = .ok (.invokeinterface 154 1, 5) := by decide +kernel
theorem dX1_run_26 : decode cX1_run 26 = .ok (.if_icmp .ge 25, 3) := dk_162 0 25 (dk_at dksX1_run_1 5 rfl rfl)
theorem dX1_run_29 : decode cX1_run 29 = .ok (.aload_n 1, 1) := dk_43 (dk_at dksX1_run_1 8 rfl rfl)
theorem dX1_run_30 : decode cX1_run 30 = .ok (.iload_n 3, 1) := dk_29 (dk_at dksX1_run_1 9 rfl rfl)
theorem dX1_run_31 : decode cX1_run 31 = .ok (.invokeinterface 198 2, 5) := by decide +kernel
theorem dX1_run_36 : decode cX1_run 36 = .ok (.checkcast 100, 3) := dk_192 0 100 (dk_at dksX1_run_1 15 rfl rfl)
theorem dX1_run_39 : decode cX1_run 39 = .ok (.aload_n 2, 1) := dk_44 (dk_at dksX1_run_1 18 rfl rfl)
theorem dX1_run_40 : decode cX1_run 40 = .ok (.invokevirtual 99, 3) := dk_182 0 99 (dk_at dksX1_run_1 19 rfl rfl)
theorem dX1_run_43 : decode cX1_run 43 = .ok (.istore 4, 2) := dk_54 4 (dk_at dksX1_run_1 22 rfl rfl)
theorem dX1_run_45 : decode cX1_run 45 = .ok (.iinc 3 1, 3) := dk_132 3 1 (dk_at dksX1_run_2 0 rfl rfl)
theorem dX1_run_48 : decode cX1_run 48 = .ok (.goto (-29), 3) := dk_167 255 227 (dk_at dksX1_run_2 3 rfl rfl)
theorem dX1_run_51 : decode cX1_run 51 = .ok (.goto 29, 3) := dk_167 0 29 (dk_at dksX1_run_2 6 rfl rfl)
theorem dX1_run_54 : decode cX1_run 54 = .ok (.astore 4, 2) := dk_58 4 (dk_at dksX1_run_2 9 rfl rfl)
theorem dX1_run_56 : decode cX1_run 56 = .ok (.aload_n 0, 1) := dk_42 (dk_at dksX1_run_2 11 rfl rfl)
theorem dX1_run_57 : decode cX1_run 57 = .ok (.new 19, 3) := dk_187 0 19 (dk_at dksX1_run_2 12 rfl rfl)
theorem dX1_run_60 : decode cX1_run 60 = .ok (.dup, 1) := dk_89 (dk_at dksX1_run_2 15 rfl rfl)
theorem dX1_run_61 : decode cX1_run 61 = .ok (.bipush 7, 2) := dk_16 7 (dk_at dksX1_run_2 16 rfl rfl)
theorem dX1_run_63 : decode cX1_run 63 = .ok (.iload_n 3, 1) := dk_29 (dk_at dksX1_run_2 18 rfl rfl)
theorem dX1_run_64 : decode cX1_run 64 = .ok (.aload 4, 2) := dk_25 4 (dk_at dksX1_run_2 19 rfl rfl)
theorem dX1_run_66 : decode cX1_run 66 = .ok (.invokespecial 309, 3) := dk_183 1 53 (dk_at dksX1_run_2 21 rfl rfl)
theorem dX1_run_69 : decode cX1_run 69 = .ok (.putfield 108, 3) := dk_181 0 108 (dk_at dksX1_run_3 0 rfl rfl)
theorem dX1_run_72 : decode cX1_run 72 = .ok (.new 112, 3) := dk_187 0 112 (dk_at dksX1_run_3 3 rfl rfl)
theorem dX1_run_75 : decode cX1_run 75 = .ok (.dup, 1) := dk_89 (dk_at dksX1_run_3 6 rfl rfl)
theorem dX1_run_76 : decode cX1_run 76 = .ok (.invokespecial 114, 3) := dk_183 0 114 (dk_at dksX1_run_3 7 rfl rfl)
theorem dX1_run_79 : decode cX1_run 79 = .ok (.athrow, 1) := dk_191 (dk_at dksX1_run_3 10 rfl rfl)
theorem dX1_run_80 : decode cX1_run 80 = .ok (.aload_n 0, 1) := dk_42 (dk_at dksX1_run_3 11 rfl rfl)
theorem dX1_run_81 : decode cX1_run 81 = .ok (.aload_n 2, 1) := dk_44 (dk_at dksX1_run_3 12 rfl rfl)
theorem dX1_run_82 : decode cX1_run 82 = .ok (.invokevirtual 105, 3) := dk_182 0 105 (dk_at dksX1_run_3 13 rfl rfl)
theorem dX1_run_85 : decode cX1_run 85 = .ok (.iload_n 3, 1) := dk_29 (dk_at dksX1_run_3 16 rfl rfl)
theorem dX1_run_86 : decode cX1_run 86 = .ok (.ireturn, 1) := dk_172 (dk_at dksX1_run_3 17 rfl rfl)
abbrev cX1_readOrders : ByteArray := prog_1_method_42_code
def yX1_readOrders : MethodName := ⟨RX1, "readOrders", "()Ljava/util/List;"⟩
def dkwX1_readOrders_1 : List UInt8 := [182, 1, 41, 176, 77, 42, 44, 180, 1, 47, 181, 0, 78, 187, 0, 221, 89, 183, 0, 223, 191]
abbrev dktX1_readOrders_1 : List UInt8 := dkwX1_readOrders_1 ++ []
def dkwX1_readOrders_0 : List UInt8 := [187, 1, 29, 89, 42, 180, 0, 68, 182, 1, 31, 183, 1, 35, 76, 42, 180, 0, 68, 3, 182, 1, 38, 43]
abbrev dktX1_readOrders_0 : List UInt8 := dkwX1_readOrders_0 ++ dktX1_readOrders_1
theorem dksX1_readOrders_0 : cX1_readOrders.data.toList.drop 0 = dktX1_readOrders_0 := by decide +kernel
theorem dksX1_readOrders_1 : cX1_readOrders.data.toList.drop 24 = dktX1_readOrders_1 := dk_seg dksX1_readOrders_0 24 rfl rfl
theorem dX1_readOrders_0 : decode cX1_readOrders 0 = .ok (.new 285, 3) := dk_187 1 29 (dk_at dksX1_readOrders_0 0 rfl rfl)
theorem dX1_readOrders_3 : decode cX1_readOrders 3 = .ok (.dup, 1) := dk_89 (dk_at dksX1_readOrders_0 3 rfl rfl)
theorem dX1_readOrders_4 : decode cX1_readOrders 4 = .ok (.aload_n 0, 1) := dk_42 (dk_at dksX1_readOrders_0 4 rfl rfl)
theorem dX1_readOrders_5 : decode cX1_readOrders 5 = .ok (.getfield 68, 3) := dk_180 0 68 (dk_at dksX1_readOrders_0 5 rfl rfl)
theorem dX1_readOrders_8 : decode cX1_readOrders 8 = .ok (.invokevirtual 287, 3) := dk_182 1 31 (dk_at dksX1_readOrders_0 8 rfl rfl)
theorem dX1_readOrders_11 : decode cX1_readOrders 11 = .ok (.invokespecial 291, 3) := dk_183 1 35 (dk_at dksX1_readOrders_0 11 rfl rfl)
theorem dX1_readOrders_14 : decode cX1_readOrders 14 = .ok (.astore_n 1, 1) := dk_76 (dk_at dksX1_readOrders_0 14 rfl rfl)
theorem dX1_readOrders_15 : decode cX1_readOrders 15 = .ok (.aload_n 0, 1) := dk_42 (dk_at dksX1_readOrders_0 15 rfl rfl)
theorem dX1_readOrders_16 : decode cX1_readOrders 16 = .ok (.getfield 68, 3) := dk_180 0 68 (dk_at dksX1_readOrders_0 16 rfl rfl)
theorem dX1_readOrders_19 : decode cX1_readOrders 19 = .ok (.iconst 0, 1) := dk_3 (dk_at dksX1_readOrders_0 19 rfl rfl)
theorem dX1_readOrders_20 : decode cX1_readOrders 20 = .ok (.invokevirtual 294, 3) := dk_182 1 38 (dk_at dksX1_readOrders_0 20 rfl rfl)
theorem dX1_readOrders_23 : decode cX1_readOrders 23 = .ok (.aload_n 1, 1) := dk_43 (dk_at dksX1_readOrders_0 23 rfl rfl)
theorem dX1_readOrders_24 : decode cX1_readOrders 24 = .ok (.invokevirtual 297, 3) := dk_182 1 41 (dk_at dksX1_readOrders_1 0 rfl rfl)
theorem dX1_readOrders_27 : decode cX1_readOrders 27 = .ok (.areturn, 1) := dk_176 (dk_at dksX1_readOrders_1 3 rfl rfl)
theorem dX1_readOrders_28 : decode cX1_readOrders 28 = .ok (.astore_n 2, 1) := dk_77 (dk_at dksX1_readOrders_1 4 rfl rfl)
theorem dX1_readOrders_29 : decode cX1_readOrders 29 = .ok (.aload_n 0, 1) := dk_42 (dk_at dksX1_readOrders_1 5 rfl rfl)
theorem dX1_readOrders_30 : decode cX1_readOrders 30 = .ok (.aload_n 2, 1) := dk_44 (dk_at dksX1_readOrders_1 6 rfl rfl)
theorem dX1_readOrders_31 : decode cX1_readOrders 31 = .ok (.getfield 303, 3) := dk_180 1 47 (dk_at dksX1_readOrders_1 7 rfl rfl)
theorem dX1_readOrders_34 : decode cX1_readOrders 34 = .ok (.putfield 78, 3) := dk_181 0 78 (dk_at dksX1_readOrders_1 10 rfl rfl)
theorem dX1_readOrders_37 : decode cX1_readOrders 37 = .ok (.new 221, 3) := dk_187 0 221 (dk_at dksX1_readOrders_1 13 rfl rfl)
theorem dX1_readOrders_40 : decode cX1_readOrders 40 = .ok (.dup, 1) := dk_89 (dk_at dksX1_readOrders_1 16 rfl rfl)
theorem dX1_readOrders_41 : decode cX1_readOrders 41 = .ok (.invokespecial 223, 3) := dk_183 0 223 (dk_at dksX1_readOrders_1 17 rfl rfl)
theorem dX1_readOrders_44 : decode cX1_readOrders 44 = .ok (.athrow, 1) := dk_191 (dk_at dksX1_readOrders_1 20 rfl rfl)
abbrev cX1_faultPosition : ByteArray := prog_1_method_44_code
def yX1_faultPosition : MethodName := ⟨RX1, "faultPosition", "()I"⟩
def dkwX1_faultPosition_0 : List UInt8 := [42, 180, 0, 78, 184, 0, 244, 172]
abbrev dktX1_faultPosition_0 : List UInt8 := dkwX1_faultPosition_0 ++ []
theorem dksX1_faultPosition_0 : cX1_faultPosition.data.toList.drop 0 = dktX1_faultPosition_0 := by decide +kernel
theorem dX1_faultPosition_0 : decode cX1_faultPosition 0 = .ok (.aload_n 0, 1) := dk_42 (dk_at dksX1_faultPosition_0 0 rfl rfl)
theorem dX1_faultPosition_1 : decode cX1_faultPosition 1 = .ok (.getfield 78, 3) := dk_180 0 78 (dk_at dksX1_faultPosition_0 1 rfl rfl)
theorem dX1_faultPosition_4 : decode cX1_faultPosition 4 = .ok (.invokestatic 244, 3) := dk_184 0 244 (dk_at dksX1_faultPosition_0 4 rfl rfl)
theorem dX1_faultPosition_7 : decode cX1_faultPosition 7 = .ok (.ireturn, 1) := dk_172 (dk_at dksX1_faultPosition_0 7 rfl rfl)
abbrev cX1_reason : ByteArray := prog_1_method_45_code
def yX1_reason : MethodName := ⟨RX1, "reason", "(ZZ)I"⟩
def dkwX1_reason_2 : List UInt8 := [153, 0, 10, 45, 180, 1, 59, 167, 0, 7, 45, 180, 1, 62, 172]
abbrev dktX1_reason_2 : List UInt8 := dkwX1_reason_2 ++ []
def dkwX1_reason_1 : List UInt8 := [180, 1, 56, 167, 0, 7, 42, 180, 0, 108, 78, 45, 198, 0, 7, 4, 167, 0, 4, 3, 184, 0, 15, 28]
abbrev dktX1_reason_1 : List UInt8 := dkwX1_reason_1 ++ dktX1_reason_2
def dkwX1_reason_0 : List UInt8 := [42, 180, 0, 108, 198, 0, 7, 4, 167, 0, 4, 3, 184, 0, 15, 27, 153, 0, 13, 42, 180, 0, 108]
abbrev dktX1_reason_0 : List UInt8 := dkwX1_reason_0 ++ dktX1_reason_1
theorem dksX1_reason_0 : cX1_reason.data.toList.drop 0 = dktX1_reason_0 := by decide +kernel
theorem dksX1_reason_1 : cX1_reason.data.toList.drop 23 = dktX1_reason_1 := dk_seg dksX1_reason_0 23 rfl rfl
theorem dksX1_reason_2 : cX1_reason.data.toList.drop 47 = dktX1_reason_2 := dk_seg dksX1_reason_1 24 rfl rfl
theorem dX1_reason_0 : decode cX1_reason 0 = .ok (.aload_n 0, 1) := dk_42 (dk_at dksX1_reason_0 0 rfl rfl)
theorem dX1_reason_1 : decode cX1_reason 1 = .ok (.getfield 108, 3) := dk_180 0 108 (dk_at dksX1_reason_0 1 rfl rfl)
theorem dX1_reason_4 : decode cX1_reason 4 = .ok (.ifnull 7, 3) := dk_198 0 7 (dk_at dksX1_reason_0 4 rfl rfl)
theorem dX1_reason_7 : decode cX1_reason 7 = .ok (.iconst 1, 1) := dk_4 (dk_at dksX1_reason_0 7 rfl rfl)
theorem dX1_reason_8 : decode cX1_reason 8 = .ok (.goto 4, 3) := dk_167 0 4 (dk_at dksX1_reason_0 8 rfl rfl)
theorem dX1_reason_11 : decode cX1_reason 11 = .ok (.iconst 0, 1) := dk_3 (dk_at dksX1_reason_0 11 rfl rfl)
theorem dX1_reason_12 : decode cX1_reason 12 = .ok (.invokestatic 15, 3) := dk_184 0 15 (dk_at dksX1_reason_0 12 rfl rfl)
theorem dX1_reason_15 : decode cX1_reason 15 = .ok (.iload_n 1, 1) := dk_27 (dk_at dksX1_reason_0 15 rfl rfl)
theorem dX1_reason_16 : decode cX1_reason 16 = .ok (.ifCond .eq 13, 3) := dk_153 0 13 (dk_at dksX1_reason_0 16 rfl rfl)
theorem dX1_reason_19 : decode cX1_reason 19 = .ok (.aload_n 0, 1) := dk_42 (dk_at dksX1_reason_0 19 rfl rfl)
theorem dX1_reason_20 : decode cX1_reason 20 = .ok (.getfield 108, 3) := dk_180 0 108 (dk_at dksX1_reason_0 20 rfl rfl)
theorem dX1_reason_23 : decode cX1_reason 23 = .ok (.getfield 312, 3) := dk_180 1 56 (dk_at dksX1_reason_1 0 rfl rfl)
theorem dX1_reason_26 : decode cX1_reason 26 = .ok (.goto 7, 3) := dk_167 0 7 (dk_at dksX1_reason_1 3 rfl rfl)
theorem dX1_reason_29 : decode cX1_reason 29 = .ok (.aload_n 0, 1) := dk_42 (dk_at dksX1_reason_1 6 rfl rfl)
theorem dX1_reason_30 : decode cX1_reason 30 = .ok (.getfield 108, 3) := dk_180 0 108 (dk_at dksX1_reason_1 7 rfl rfl)
theorem dX1_reason_33 : decode cX1_reason 33 = .ok (.astore_n 3, 1) := dk_78 (dk_at dksX1_reason_1 10 rfl rfl)
theorem dX1_reason_34 : decode cX1_reason 34 = .ok (.aload_n 3, 1) := dk_45 (dk_at dksX1_reason_1 11 rfl rfl)
theorem dX1_reason_35 : decode cX1_reason 35 = .ok (.ifnull 7, 3) := dk_198 0 7 (dk_at dksX1_reason_1 12 rfl rfl)
theorem dX1_reason_38 : decode cX1_reason 38 = .ok (.iconst 1, 1) := dk_4 (dk_at dksX1_reason_1 15 rfl rfl)
theorem dX1_reason_39 : decode cX1_reason 39 = .ok (.goto 4, 3) := dk_167 0 4 (dk_at dksX1_reason_1 16 rfl rfl)
theorem dX1_reason_42 : decode cX1_reason 42 = .ok (.iconst 0, 1) := dk_3 (dk_at dksX1_reason_1 19 rfl rfl)
theorem dX1_reason_43 : decode cX1_reason 43 = .ok (.invokestatic 15, 3) := dk_184 0 15 (dk_at dksX1_reason_1 20 rfl rfl)
theorem dX1_reason_46 : decode cX1_reason 46 = .ok (.iload_n 2, 1) := dk_28 (dk_at dksX1_reason_1 23 rfl rfl)
theorem dX1_reason_47 : decode cX1_reason 47 = .ok (.ifCond .eq 10, 3) := dk_153 0 10 (dk_at dksX1_reason_2 0 rfl rfl)
theorem dX1_reason_50 : decode cX1_reason 50 = .ok (.aload_n 3, 1) := dk_45 (dk_at dksX1_reason_2 3 rfl rfl)
theorem dX1_reason_51 : decode cX1_reason 51 = .ok (.getfield 315, 3) := dk_180 1 59 (dk_at dksX1_reason_2 4 rfl rfl)
theorem dX1_reason_54 : decode cX1_reason 54 = .ok (.goto 7, 3) := dk_167 0 7 (dk_at dksX1_reason_2 7 rfl rfl)
theorem dX1_reason_57 : decode cX1_reason 57 = .ok (.aload_n 3, 1) := dk_45 (dk_at dksX1_reason_2 10 rfl rfl)
theorem dX1_reason_58 : decode cX1_reason 58 = .ok (.getfield 318, 3) := dk_180 1 62 (dk_at dksX1_reason_2 11 rfl rfl)
theorem dX1_reason_61 : decode cX1_reason 61 = .ok (.ireturn, 1) := dk_172 (dk_at dksX1_reason_2 14 rfl rfl)
abbrev cX1_tell : ByteArray := prog_1_method_46_code
def yX1_tell : MethodName := ⟨RX1, "tell", "(I)I"⟩
def dkwX1_tell_1 : List UInt8 := [172]
abbrev dktX1_tell_1 : List UInt8 := dkwX1_tell_1 ++ []
def dkwX1_tell_0 : List UInt8 := [42, 27, 182, 0, 192, 42, 42, 180, 0, 54, 27, 182, 1, 65, 181, 0, 74, 42, 180, 0, 74, 182, 1, 69]
abbrev dktX1_tell_0 : List UInt8 := dkwX1_tell_0 ++ dktX1_tell_1
theorem dksX1_tell_0 : cX1_tell.data.toList.drop 0 = dktX1_tell_0 := by decide +kernel
theorem dksX1_tell_1 : cX1_tell.data.toList.drop 24 = dktX1_tell_1 := dk_seg dksX1_tell_0 24 rfl rfl
theorem dX1_tell_0 : decode cX1_tell 0 = .ok (.aload_n 0, 1) := dk_42 (dk_at dksX1_tell_0 0 rfl rfl)
theorem dX1_tell_1 : decode cX1_tell 1 = .ok (.iload_n 1, 1) := dk_27 (dk_at dksX1_tell_0 1 rfl rfl)
theorem dX1_tell_2 : decode cX1_tell 2 = .ok (.invokevirtual 192, 3) := dk_182 0 192 (dk_at dksX1_tell_0 2 rfl rfl)
theorem dX1_tell_5 : decode cX1_tell 5 = .ok (.aload_n 0, 1) := dk_42 (dk_at dksX1_tell_0 5 rfl rfl)
theorem dX1_tell_6 : decode cX1_tell 6 = .ok (.aload_n 0, 1) := dk_42 (dk_at dksX1_tell_0 6 rfl rfl)
theorem dX1_tell_7 : decode cX1_tell 7 = .ok (.getfield 54, 3) := dk_180 0 54 (dk_at dksX1_tell_0 7 rfl rfl)
theorem dX1_tell_10 : decode cX1_tell 10 = .ok (.iload_n 1, 1) := dk_27 (dk_at dksX1_tell_0 10 rfl rfl)
theorem dX1_tell_11 : decode cX1_tell 11 = .ok (.invokevirtual 321, 3) := dk_182 1 65 (dk_at dksX1_tell_0 11 rfl rfl)
theorem dX1_tell_14 : decode cX1_tell 14 = .ok (.putfield 74, 3) := dk_181 0 74 (dk_at dksX1_tell_0 14 rfl rfl)
theorem dX1_tell_17 : decode cX1_tell 17 = .ok (.aload_n 0, 1) := dk_42 (dk_at dksX1_tell_0 17 rfl rfl)
theorem dX1_tell_18 : decode cX1_tell 18 = .ok (.getfield 74, 3) := dk_180 0 74 (dk_at dksX1_tell_0 18 rfl rfl)
theorem dX1_tell_21 : decode cX1_tell 21 = .ok (.invokevirtual 325, 3) := dk_182 1 69 (dk_at dksX1_tell_0 21 rfl rfl)
theorem dX1_tell_24 : decode cX1_tell 24 = .ok (.ireturn, 1) := dk_172 (dk_at dksX1_tell_1 0 rfl rfl)
abbrev cX1_character : ByteArray := prog_1_method_47_code
def yX1_character : MethodName := ⟨RX1, "character", "(I)C"⟩
def dkwX1_character_1 : List UInt8 := [182, 1, 72, 172]
abbrev dktX1_character_1 : List UInt8 := dkwX1_character_1 ++ []
def dkwX1_character_0 : List UInt8 := [27, 3, 42, 180, 0, 74, 182, 1, 69, 4, 100, 184, 0, 24, 184, 0, 147, 42, 180, 0, 74, 27]
abbrev dktX1_character_0 : List UInt8 := dkwX1_character_0 ++ dktX1_character_1
theorem dksX1_character_0 : cX1_character.data.toList.drop 0 = dktX1_character_0 := by decide +kernel
theorem dksX1_character_1 : cX1_character.data.toList.drop 22 = dktX1_character_1 := dk_seg dksX1_character_0 22 rfl rfl
theorem dX1_character_0 : decode cX1_character 0 = .ok (.iload_n 1, 1) := dk_27 (dk_at dksX1_character_0 0 rfl rfl)
theorem dX1_character_1 : decode cX1_character 1 = .ok (.iconst 0, 1) := dk_3 (dk_at dksX1_character_0 1 rfl rfl)
theorem dX1_character_2 : decode cX1_character 2 = .ok (.aload_n 0, 1) := dk_42 (dk_at dksX1_character_0 2 rfl rfl)
theorem dX1_character_3 : decode cX1_character 3 = .ok (.getfield 74, 3) := dk_180 0 74 (dk_at dksX1_character_0 3 rfl rfl)
theorem dX1_character_6 : decode cX1_character 6 = .ok (.invokevirtual 325, 3) := dk_182 1 69 (dk_at dksX1_character_0 6 rfl rfl)
theorem dX1_character_9 : decode cX1_character 9 = .ok (.iconst 1, 1) := dk_4 (dk_at dksX1_character_0 9 rfl rfl)
theorem dX1_character_10 : decode cX1_character 10 = .ok (.isub, 1) := dk_100 (dk_at dksX1_character_0 10 rfl rfl)
theorem dX1_character_11 : decode cX1_character 11 = .ok (.invokestatic 24, 3) := dk_184 0 24 (dk_at dksX1_character_0 11 rfl rfl)
theorem dX1_character_14 : decode cX1_character 14 = .ok (.invokestatic 147, 3) := dk_184 0 147 (dk_at dksX1_character_0 14 rfl rfl)
theorem dX1_character_17 : decode cX1_character 17 = .ok (.aload_n 0, 1) := dk_42 (dk_at dksX1_character_0 17 rfl rfl)
theorem dX1_character_18 : decode cX1_character 18 = .ok (.getfield 74, 3) := dk_180 0 74 (dk_at dksX1_character_0 18 rfl rfl)
theorem dX1_character_21 : decode cX1_character 21 = .ok (.iload_n 1, 1) := dk_27 (dk_at dksX1_character_0 21 rfl rfl)
theorem dX1_character_22 : decode cX1_character 22 = .ok (.invokevirtual 328, 3) := dk_182 1 72 (dk_at dksX1_character_1 0 rfl rfl)
theorem dX1_character_25 : decode cX1_character 25 = .ok (.ireturn, 1) := dk_172 (dk_at dksX1_character_1 3 rfl rfl)
abbrev cX1_hitShare : ByteArray := prog_1_method_48_code
def yX1_hitShare : MethodName := ⟨RX1, "hitShare", "()F"⟩
def dkwX1_hitShare_1 : List UInt8 := [183, 1, 84, 191, 42, 180, 0, 54, 180, 1, 85, 134, 27, 134, 110, 174]
abbrev dktX1_hitShare_1 : List UInt8 := dkwX1_hitShare_1 ++ []
def dkwX1_hitShare_0 : List UInt8 := [42, 180, 0, 54, 180, 1, 76, 42, 180, 0, 54, 180, 1, 79, 96, 60, 27, 154, 0, 11, 187, 1, 82, 89]
abbrev dktX1_hitShare_0 : List UInt8 := dkwX1_hitShare_0 ++ dktX1_hitShare_1
theorem dksX1_hitShare_0 : cX1_hitShare.data.toList.drop 0 = dktX1_hitShare_0 := by decide +kernel
theorem dksX1_hitShare_1 : cX1_hitShare.data.toList.drop 24 = dktX1_hitShare_1 := dk_seg dksX1_hitShare_0 24 rfl rfl
theorem dX1_hitShare_0 : decode cX1_hitShare 0 = .ok (.aload_n 0, 1) := dk_42 (dk_at dksX1_hitShare_0 0 rfl rfl)
theorem dX1_hitShare_1 : decode cX1_hitShare 1 = .ok (.getfield 54, 3) := dk_180 0 54 (dk_at dksX1_hitShare_0 1 rfl rfl)
theorem dX1_hitShare_4 : decode cX1_hitShare 4 = .ok (.getfield 332, 3) := dk_180 1 76 (dk_at dksX1_hitShare_0 4 rfl rfl)
theorem dX1_hitShare_7 : decode cX1_hitShare 7 = .ok (.aload_n 0, 1) := dk_42 (dk_at dksX1_hitShare_0 7 rfl rfl)
theorem dX1_hitShare_8 : decode cX1_hitShare 8 = .ok (.getfield 54, 3) := dk_180 0 54 (dk_at dksX1_hitShare_0 8 rfl rfl)
theorem dX1_hitShare_11 : decode cX1_hitShare 11 = .ok (.getfield 335, 3) := dk_180 1 79 (dk_at dksX1_hitShare_0 11 rfl rfl)
theorem dX1_hitShare_14 : decode cX1_hitShare 14 = .ok (.iadd, 1) := dk_96 (dk_at dksX1_hitShare_0 14 rfl rfl)
theorem dX1_hitShare_15 : decode cX1_hitShare 15 = .ok (.istore_n 1, 1) := dk_60 (dk_at dksX1_hitShare_0 15 rfl rfl)
theorem dX1_hitShare_16 : decode cX1_hitShare 16 = .ok (.iload_n 1, 1) := dk_27 (dk_at dksX1_hitShare_0 16 rfl rfl)
theorem dX1_hitShare_17 : decode cX1_hitShare 17 = .ok (.ifCond .ne 11, 3) := dk_154 0 11 (dk_at dksX1_hitShare_0 17 rfl rfl)
theorem dX1_hitShare_20 : decode cX1_hitShare 20 = .ok (.new 338, 3) := dk_187 1 82 (dk_at dksX1_hitShare_0 20 rfl rfl)
theorem dX1_hitShare_23 : decode cX1_hitShare 23 = .ok (.dup, 1) := dk_89 (dk_at dksX1_hitShare_0 23 rfl rfl)
theorem dX1_hitShare_24 : decode cX1_hitShare 24 = .ok (.invokespecial 340, 3) := dk_183 1 84 (dk_at dksX1_hitShare_1 0 rfl rfl)
theorem dX1_hitShare_27 : decode cX1_hitShare 27 = .ok (.athrow, 1) := dk_191 (dk_at dksX1_hitShare_1 3 rfl rfl)
theorem dX1_hitShare_28 : decode cX1_hitShare 28 = .ok (.aload_n 0, 1) := dk_42 (dk_at dksX1_hitShare_1 4 rfl rfl)
theorem dX1_hitShare_29 : decode cX1_hitShare 29 = .ok (.getfield 54, 3) := dk_180 0 54 (dk_at dksX1_hitShare_1 5 rfl rfl)
theorem dX1_hitShare_32 : decode cX1_hitShare 32 = .ok (.getfield 341, 3) := dk_180 1 85 (dk_at dksX1_hitShare_1 8 rfl rfl)
theorem dX1_hitShare_35 : decode cX1_hitShare 35 = .ok (.i2f, 1) := dk_134 (dk_at dksX1_hitShare_1 11 rfl rfl)
theorem dX1_hitShare_36 : decode cX1_hitShare 36 = .ok (.iload_n 1, 1) := dk_27 (dk_at dksX1_hitShare_1 12 rfl rfl)
theorem dX1_hitShare_37 : decode cX1_hitShare 37 = .ok (.i2f, 1) := dk_134 (dk_at dksX1_hitShare_1 13 rfl rfl)
theorem dX1_hitShare_38 : decode cX1_hitShare 38 = .ok (.fdiv, 1) := dk_110 (dk_at dksX1_hitShare_1 14 rfl rfl)
theorem dX1_hitShare_39 : decode cX1_hitShare 39 = .ok (.freturn, 1) := dk_174 (dk_at dksX1_hitShare_1 15 rfl rfl)
abbrev cX1_account : ByteArray := prog_1_method_52_code
def yX1_account : MethodName := ⟨RX1, "account", "(I)I"⟩
def dkwX1_account_9 : List UInt8 := [183, 0, 223, 191]
abbrev dktX1_account_9 : List UInt8 := dkwX1_account_9 ++ []
def dkwX1_account_8 : List UInt8 := [172, 42, 180, 0, 68, 182, 1, 19, 172, 42, 180, 0, 61, 185, 0, 82, 1, 0, 172, 187, 0, 221, 89]
abbrev dktX1_account_8 : List UInt8 := dkwX1_account_8 ++ dktX1_account_9
def dkwX1_account_7 : List UInt8 := [172, 42, 180, 0, 54, 180, 1, 129, 172, 42, 180, 0, 54, 180, 1, 132, 172, 42, 180, 0, 54, 180, 1, 135]
abbrev dktX1_account_7 : List UInt8 := dkwX1_account_7 ++ dktX1_account_8
def dkwX1_account_6 : List UInt8 := [180, 1, 85, 172, 42, 180, 0, 54, 180, 1, 123, 27, 16, 11, 100, 46, 172, 42, 180, 0, 54, 180, 1, 126]
abbrev dktX1_account_6 : List UInt8 := dkwX1_account_6 ++ dktX1_account_7
def dkwX1_account_5 : List UInt8 := [182, 0, 144, 172, 42, 180, 0, 54, 180, 1, 76, 172, 42, 180, 0, 54, 180, 1, 79, 172, 42, 180, 0, 54]
abbrev dktX1_account_5 : List UInt8 := dkwX1_account_5 ++ dktX1_account_6
def dkwX1_account_4 : List UInt8 := [153, 0, 7, 4, 167, 0, 4, 3, 172, 42, 182, 1, 117, 172, 42, 182, 1, 120, 172, 42, 180, 0, 54]
abbrev dktX1_account_4 : List UInt8 := dkwX1_account_4 ++ dktX1_account_5
def dkwX1_account_3 : List UInt8 := [180, 0, 54, 180, 0, 195, 172, 42, 180, 0, 54, 180, 1, 115, 172, 42, 180, 0, 54, 180, 0, 140]
abbrev dktX1_account_3 : List UInt8 := dkwX1_account_3 ++ dktX1_account_4
def dkwX1_account_2 : List UInt8 := [42, 180, 0, 54, 180, 0, 253, 172, 42, 180, 0, 54, 180, 0, 150, 185, 0, 154, 1, 0, 172, 42]
abbrev dktX1_account_2 : List UInt8 := dkwX1_account_2 ++ dktX1_account_3
def dkwX1_account_1 : List UInt8 := [170, 0, 0, 0, 0, 0, 253, 0, 0, 0, 0, 0, 0, 0, 19, 0, 0, 0, 95, 0, 0, 0, 103, 0, 0, 0, 116, 0, 0, 0, 124, 0, 0, 0, 132, 0, 0, 0, 148, 0, 0, 0, 153, 0, 0, 0, 158, 0, 0, 0, 166, 0, 0, 0, 174, 0, 0, 0, 182, 0, 0, 0, 190, 0, 0, 0, 190, 0, 0, 0, 190, 0, 0, 0, 203, 0, 0, 0, 211, 0, 0, 0, 219, 0, 0, 0, 227, 0, 0, 0, 235, 0, 0, 0, 243]
abbrev dktX1_account_1 : List UInt8 := dkwX1_account_1 ++ dktX1_account_2
def dkwX1_account_0 : List UInt8 := [27]
abbrev dktX1_account_0 : List UInt8 := dkwX1_account_0 ++ dktX1_account_1
theorem dksX1_account_0 : cX1_account.data.toList.drop 0 = dktX1_account_0 := by decide +kernel
theorem dksX1_account_1 : cX1_account.data.toList.drop 1 = dktX1_account_1 := dk_seg dksX1_account_0 1 rfl rfl
theorem dksX1_account_2 : cX1_account.data.toList.drop 96 = dktX1_account_2 := dk_seg dksX1_account_1 95 rfl rfl
theorem dksX1_account_3 : cX1_account.data.toList.drop 118 = dktX1_account_3 := dk_seg dksX1_account_2 22 rfl rfl
theorem dksX1_account_4 : cX1_account.data.toList.drop 140 = dktX1_account_4 := dk_seg dksX1_account_3 22 rfl rfl
theorem dksX1_account_5 : cX1_account.data.toList.drop 163 = dktX1_account_5 := dk_seg dksX1_account_4 23 rfl rfl
theorem dksX1_account_6 : cX1_account.data.toList.drop 187 = dktX1_account_6 := dk_seg dksX1_account_5 24 rfl rfl
theorem dksX1_account_7 : cX1_account.data.toList.drop 211 = dktX1_account_7 := dk_seg dksX1_account_6 24 rfl rfl
theorem dksX1_account_8 : cX1_account.data.toList.drop 235 = dktX1_account_8 := dk_seg dksX1_account_7 24 rfl rfl
theorem dksX1_account_9 : cX1_account.data.toList.drop 258 = dktX1_account_9 := dk_seg dksX1_account_8 23 rfl rfl
theorem dX1_account_0 : decode cX1_account 0 = .ok (.iload_n 1, 1) := dk_27 (dk_at dksX1_account_0 0 rfl rfl)
theorem dX1_account_1 : decode cX1_account 1 = .ok (.tableswitch 253 0 19 #[95, 103, 116, 124, 132, 148, 153, 158, 166, 174, 182, 190, 190, 190, 203, 211, 219, 227, 235, 243], 95) := by decide +kernel
theorem dX1_account_96 : decode cX1_account 96 = .ok (.aload_n 0, 1) := dk_42 (dk_at dksX1_account_2 0 rfl rfl)
theorem dX1_account_97 : decode cX1_account 97 = .ok (.getfield 54, 3) := dk_180 0 54 (dk_at dksX1_account_2 1 rfl rfl)
theorem dX1_account_100 : decode cX1_account 100 = .ok (.getfield 253, 3) := dk_180 0 253 (dk_at dksX1_account_2 4 rfl rfl)
theorem dX1_account_103 : decode cX1_account 103 = .ok (.ireturn, 1) := dk_172 (dk_at dksX1_account_2 7 rfl rfl)
theorem dX1_account_104 : decode cX1_account 104 = .ok (.aload_n 0, 1) := dk_42 (dk_at dksX1_account_2 8 rfl rfl)
theorem dX1_account_105 : decode cX1_account 105 = .ok (.getfield 54, 3) := dk_180 0 54 (dk_at dksX1_account_2 9 rfl rfl)
theorem dX1_account_108 : decode cX1_account 108 = .ok (.getfield 150, 3) := dk_180 0 150 (dk_at dksX1_account_2 12 rfl rfl)
theorem dX1_account_111 : decode cX1_account 111 = .ok (.invokeinterface 154 1, 5) := by decide +kernel
theorem dX1_account_116 : decode cX1_account 116 = .ok (.ireturn, 1) := dk_172 (dk_at dksX1_account_2 20 rfl rfl)
theorem dX1_account_117 : decode cX1_account 117 = .ok (.aload_n 0, 1) := dk_42 (dk_at dksX1_account_2 21 rfl rfl)
theorem dX1_account_118 : decode cX1_account 118 = .ok (.getfield 54, 3) := dk_180 0 54 (dk_at dksX1_account_3 0 rfl rfl)
theorem dX1_account_121 : decode cX1_account 121 = .ok (.getfield 195, 3) := dk_180 0 195 (dk_at dksX1_account_3 3 rfl rfl)
theorem dX1_account_124 : decode cX1_account 124 = .ok (.ireturn, 1) := dk_172 (dk_at dksX1_account_3 6 rfl rfl)
theorem dX1_account_125 : decode cX1_account 125 = .ok (.aload_n 0, 1) := dk_42 (dk_at dksX1_account_3 7 rfl rfl)
theorem dX1_account_126 : decode cX1_account 126 = .ok (.getfield 54, 3) := dk_180 0 54 (dk_at dksX1_account_3 8 rfl rfl)
theorem dX1_account_129 : decode cX1_account 129 = .ok (.getfield 371, 3) := dk_180 1 115 (dk_at dksX1_account_3 11 rfl rfl)
theorem dX1_account_132 : decode cX1_account 132 = .ok (.ireturn, 1) := dk_172 (dk_at dksX1_account_3 14 rfl rfl)
theorem dX1_account_133 : decode cX1_account 133 = .ok (.aload_n 0, 1) := dk_42 (dk_at dksX1_account_3 15 rfl rfl)
theorem dX1_account_134 : decode cX1_account 134 = .ok (.getfield 54, 3) := dk_180 0 54 (dk_at dksX1_account_3 16 rfl rfl)
theorem dX1_account_137 : decode cX1_account 137 = .ok (.getfield 140, 3) := dk_180 0 140 (dk_at dksX1_account_3 19 rfl rfl)
theorem dX1_account_140 : decode cX1_account 140 = .ok (.ifCond .eq 7, 3) := dk_153 0 7 (dk_at dksX1_account_4 0 rfl rfl)
theorem dX1_account_143 : decode cX1_account 143 = .ok (.iconst 1, 1) := dk_4 (dk_at dksX1_account_4 3 rfl rfl)
theorem dX1_account_144 : decode cX1_account 144 = .ok (.goto 4, 3) := dk_167 0 4 (dk_at dksX1_account_4 4 rfl rfl)
theorem dX1_account_147 : decode cX1_account 147 = .ok (.iconst 0, 1) := dk_3 (dk_at dksX1_account_4 7 rfl rfl)
theorem dX1_account_148 : decode cX1_account 148 = .ok (.ireturn, 1) := dk_172 (dk_at dksX1_account_4 8 rfl rfl)
theorem dX1_account_149 : decode cX1_account 149 = .ok (.aload_n 0, 1) := dk_42 (dk_at dksX1_account_4 9 rfl rfl)
theorem dX1_account_150 : decode cX1_account 150 = .ok (.invokevirtual 373, 3) := dk_182 1 117 (dk_at dksX1_account_4 10 rfl rfl)
theorem dX1_account_153 : decode cX1_account 153 = .ok (.ireturn, 1) := dk_172 (dk_at dksX1_account_4 13 rfl rfl)
theorem dX1_account_154 : decode cX1_account 154 = .ok (.aload_n 0, 1) := dk_42 (dk_at dksX1_account_4 14 rfl rfl)
theorem dX1_account_155 : decode cX1_account 155 = .ok (.invokevirtual 376, 3) := dk_182 1 120 (dk_at dksX1_account_4 15 rfl rfl)
theorem dX1_account_158 : decode cX1_account 158 = .ok (.ireturn, 1) := dk_172 (dk_at dksX1_account_4 18 rfl rfl)
theorem dX1_account_159 : decode cX1_account 159 = .ok (.aload_n 0, 1) := dk_42 (dk_at dksX1_account_4 19 rfl rfl)
theorem dX1_account_160 : decode cX1_account 160 = .ok (.getfield 54, 3) := dk_180 0 54 (dk_at dksX1_account_4 20 rfl rfl)
theorem dX1_account_163 : decode cX1_account 163 = .ok (.invokevirtual 144, 3) := dk_182 0 144 (dk_at dksX1_account_5 0 rfl rfl)
theorem dX1_account_166 : decode cX1_account 166 = .ok (.ireturn, 1) := dk_172 (dk_at dksX1_account_5 3 rfl rfl)
theorem dX1_account_167 : decode cX1_account 167 = .ok (.aload_n 0, 1) := dk_42 (dk_at dksX1_account_5 4 rfl rfl)
theorem dX1_account_168 : decode cX1_account 168 = .ok (.getfield 54, 3) := dk_180 0 54 (dk_at dksX1_account_5 5 rfl rfl)
theorem dX1_account_171 : decode cX1_account 171 = .ok (.getfield 332, 3) := dk_180 1 76 (dk_at dksX1_account_5 8 rfl rfl)
theorem dX1_account_174 : decode cX1_account 174 = .ok (.ireturn, 1) := dk_172 (dk_at dksX1_account_5 11 rfl rfl)
theorem dX1_account_175 : decode cX1_account 175 = .ok (.aload_n 0, 1) := dk_42 (dk_at dksX1_account_5 12 rfl rfl)
theorem dX1_account_176 : decode cX1_account 176 = .ok (.getfield 54, 3) := dk_180 0 54 (dk_at dksX1_account_5 13 rfl rfl)
theorem dX1_account_179 : decode cX1_account 179 = .ok (.getfield 335, 3) := dk_180 1 79 (dk_at dksX1_account_5 16 rfl rfl)
theorem dX1_account_182 : decode cX1_account 182 = .ok (.ireturn, 1) := dk_172 (dk_at dksX1_account_5 19 rfl rfl)
theorem dX1_account_183 : decode cX1_account 183 = .ok (.aload_n 0, 1) := dk_42 (dk_at dksX1_account_5 20 rfl rfl)
theorem dX1_account_184 : decode cX1_account 184 = .ok (.getfield 54, 3) := dk_180 0 54 (dk_at dksX1_account_5 21 rfl rfl)
theorem dX1_account_187 : decode cX1_account 187 = .ok (.getfield 341, 3) := dk_180 1 85 (dk_at dksX1_account_6 0 rfl rfl)
theorem dX1_account_190 : decode cX1_account 190 = .ok (.ireturn, 1) := dk_172 (dk_at dksX1_account_6 3 rfl rfl)
theorem dX1_account_191 : decode cX1_account 191 = .ok (.aload_n 0, 1) := dk_42 (dk_at dksX1_account_6 4 rfl rfl)
theorem dX1_account_192 : decode cX1_account 192 = .ok (.getfield 54, 3) := dk_180 0 54 (dk_at dksX1_account_6 5 rfl rfl)
theorem dX1_account_195 : decode cX1_account 195 = .ok (.getfield 379, 3) := dk_180 1 123 (dk_at dksX1_account_6 8 rfl rfl)
theorem dX1_account_198 : decode cX1_account 198 = .ok (.iload_n 1, 1) := dk_27 (dk_at dksX1_account_6 11 rfl rfl)
theorem dX1_account_199 : decode cX1_account 199 = .ok (.bipush 11, 2) := dk_16 11 (dk_at dksX1_account_6 12 rfl rfl)
theorem dX1_account_201 : decode cX1_account 201 = .ok (.isub, 1) := dk_100 (dk_at dksX1_account_6 14 rfl rfl)
theorem dX1_account_202 : decode cX1_account 202 = .ok (.iaload, 1) := dk_46 (dk_at dksX1_account_6 15 rfl rfl)
theorem dX1_account_203 : decode cX1_account 203 = .ok (.ireturn, 1) := dk_172 (dk_at dksX1_account_6 16 rfl rfl)
theorem dX1_account_204 : decode cX1_account 204 = .ok (.aload_n 0, 1) := dk_42 (dk_at dksX1_account_6 17 rfl rfl)
theorem dX1_account_205 : decode cX1_account 205 = .ok (.getfield 54, 3) := dk_180 0 54 (dk_at dksX1_account_6 18 rfl rfl)
theorem dX1_account_208 : decode cX1_account 208 = .ok (.getfield 382, 3) := dk_180 1 126 (dk_at dksX1_account_6 21 rfl rfl)
theorem dX1_account_211 : decode cX1_account 211 = .ok (.ireturn, 1) := dk_172 (dk_at dksX1_account_7 0 rfl rfl)
theorem dX1_account_212 : decode cX1_account 212 = .ok (.aload_n 0, 1) := dk_42 (dk_at dksX1_account_7 1 rfl rfl)
theorem dX1_account_213 : decode cX1_account 213 = .ok (.getfield 54, 3) := dk_180 0 54 (dk_at dksX1_account_7 2 rfl rfl)
theorem dX1_account_216 : decode cX1_account 216 = .ok (.getfield 385, 3) := dk_180 1 129 (dk_at dksX1_account_7 5 rfl rfl)
theorem dX1_account_219 : decode cX1_account 219 = .ok (.ireturn, 1) := dk_172 (dk_at dksX1_account_7 8 rfl rfl)
theorem dX1_account_220 : decode cX1_account 220 = .ok (.aload_n 0, 1) := dk_42 (dk_at dksX1_account_7 9 rfl rfl)
theorem dX1_account_221 : decode cX1_account 221 = .ok (.getfield 54, 3) := dk_180 0 54 (dk_at dksX1_account_7 10 rfl rfl)
theorem dX1_account_224 : decode cX1_account 224 = .ok (.getfield 388, 3) := dk_180 1 132 (dk_at dksX1_account_7 13 rfl rfl)
theorem dX1_account_227 : decode cX1_account 227 = .ok (.ireturn, 1) := dk_172 (dk_at dksX1_account_7 16 rfl rfl)
theorem dX1_account_228 : decode cX1_account 228 = .ok (.aload_n 0, 1) := dk_42 (dk_at dksX1_account_7 17 rfl rfl)
theorem dX1_account_229 : decode cX1_account 229 = .ok (.getfield 54, 3) := dk_180 0 54 (dk_at dksX1_account_7 18 rfl rfl)
theorem dX1_account_232 : decode cX1_account 232 = .ok (.getfield 391, 3) := dk_180 1 135 (dk_at dksX1_account_7 21 rfl rfl)
theorem dX1_account_235 : decode cX1_account 235 = .ok (.ireturn, 1) := dk_172 (dk_at dksX1_account_8 0 rfl rfl)
theorem dX1_account_236 : decode cX1_account 236 = .ok (.aload_n 0, 1) := dk_42 (dk_at dksX1_account_8 1 rfl rfl)
theorem dX1_account_237 : decode cX1_account 237 = .ok (.getfield 68, 3) := dk_180 0 68 (dk_at dksX1_account_8 2 rfl rfl)
theorem dX1_account_240 : decode cX1_account 240 = .ok (.invokevirtual 275, 3) := dk_182 1 19 (dk_at dksX1_account_8 5 rfl rfl)
theorem dX1_account_243 : decode cX1_account 243 = .ok (.ireturn, 1) := dk_172 (dk_at dksX1_account_8 8 rfl rfl)
theorem dX1_account_244 : decode cX1_account 244 = .ok (.aload_n 0, 1) := dk_42 (dk_at dksX1_account_8 9 rfl rfl)
theorem dX1_account_245 : decode cX1_account 245 = .ok (.getfield 61, 3) := dk_180 0 61 (dk_at dksX1_account_8 10 rfl rfl)
theorem dX1_account_248 : decode cX1_account 248 = .ok (.invokeinterface 82 1, 5) := by decide +kernel
theorem dX1_account_253 : decode cX1_account 253 = .ok (.ireturn, 1) := dk_172 (dk_at dksX1_account_8 18 rfl rfl)
theorem dX1_account_254 : decode cX1_account 254 = .ok (.new 221, 3) := dk_187 0 221 (dk_at dksX1_account_8 19 rfl rfl)
theorem dX1_account_257 : decode cX1_account 257 = .ok (.dup, 1) := dk_89 (dk_at dksX1_account_8 22 rfl rfl)
theorem dX1_account_258 : decode cX1_account 258 = .ok (.invokespecial 223, 3) := dk_183 0 223 (dk_at dksX1_account_9 0 rfl rfl)
theorem dX1_account_261 : decode cX1_account 261 = .ok (.athrow, 1) := dk_191 (dk_at dksX1_account_9 3 rfl rfl)
abbrev cX1_countHeld : ByteArray := prog_1_method_50_code
def yX1_countHeld : MethodName := ⟨RX1, "countHeld", "()I"⟩
def dkwX1_countHeld_2 : List UInt8 := [60, 167, 255, 222, 27, 172]
abbrev dktX1_countHeld_2 : List UInt8 := dkwX1_countHeld_2 ++ []
def dkwX1_countHeld_1 : List UInt8 := [44, 185, 1, 106, 1, 0, 192, 0, 201, 78, 27, 45, 182, 1, 109, 153, 0, 7, 3, 167, 0, 4, 4, 96]
abbrev dktX1_countHeld_1 : List UInt8 := dkwX1_countHeld_1 ++ dktX1_countHeld_2
def dkwX1_countHeld_0 : List UInt8 := [3, 60, 42, 180, 0, 54, 182, 1, 93, 185, 1, 96, 1, 0, 77, 44, 185, 1, 100, 1, 0, 153, 0, 31]
abbrev dktX1_countHeld_0 : List UInt8 := dkwX1_countHeld_0 ++ dktX1_countHeld_1
theorem dksX1_countHeld_0 : cX1_countHeld.data.toList.drop 0 = dktX1_countHeld_0 := by decide +kernel
theorem dksX1_countHeld_1 : cX1_countHeld.data.toList.drop 24 = dktX1_countHeld_1 := dk_seg dksX1_countHeld_0 24 rfl rfl
theorem dksX1_countHeld_2 : cX1_countHeld.data.toList.drop 48 = dktX1_countHeld_2 := dk_seg dksX1_countHeld_1 24 rfl rfl
theorem dX1_countHeld_0 : decode cX1_countHeld 0 = .ok (.iconst 0, 1) := dk_3 (dk_at dksX1_countHeld_0 0 rfl rfl)
theorem dX1_countHeld_1 : decode cX1_countHeld 1 = .ok (.istore_n 1, 1) := dk_60 (dk_at dksX1_countHeld_0 1 rfl rfl)
theorem dX1_countHeld_2 : decode cX1_countHeld 2 = .ok (.aload_n 0, 1) := dk_42 (dk_at dksX1_countHeld_0 2 rfl rfl)
theorem dX1_countHeld_3 : decode cX1_countHeld 3 = .ok (.getfield 54, 3) := dk_180 0 54 (dk_at dksX1_countHeld_0 3 rfl rfl)
theorem dX1_countHeld_6 : decode cX1_countHeld 6 = .ok (.invokevirtual 349, 3) := dk_182 1 93 (dk_at dksX1_countHeld_0 6 rfl rfl)
theorem dX1_countHeld_9 : decode cX1_countHeld 9 = .ok (.invokeinterface 352 1, 5) := by decide +kernel
theorem dX1_countHeld_14 : decode cX1_countHeld 14 = .ok (.astore_n 2, 1) := dk_77 (dk_at dksX1_countHeld_0 14 rfl rfl)
theorem dX1_countHeld_15 : decode cX1_countHeld 15 = .ok (.aload_n 2, 1) := dk_44 (dk_at dksX1_countHeld_0 15 rfl rfl)
theorem dX1_countHeld_16 : decode cX1_countHeld 16 = .ok (.invokeinterface 356 1, 5) := by decide +kernel
theorem dX1_countHeld_21 : decode cX1_countHeld 21 = .ok (.ifCond .eq 31, 3) := dk_153 0 31 (dk_at dksX1_countHeld_0 21 rfl rfl)
theorem dX1_countHeld_24 : decode cX1_countHeld 24 = .ok (.aload_n 2, 1) := dk_44 (dk_at dksX1_countHeld_1 0 rfl rfl)
theorem dX1_countHeld_25 : decode cX1_countHeld 25 = .ok (.invokeinterface 362 1, 5) := by decide +kernel
theorem dX1_countHeld_30 : decode cX1_countHeld 30 = .ok (.checkcast 201, 3) := dk_192 0 201 (dk_at dksX1_countHeld_1 6 rfl rfl)
theorem dX1_countHeld_33 : decode cX1_countHeld 33 = .ok (.astore_n 3, 1) := dk_78 (dk_at dksX1_countHeld_1 9 rfl rfl)
theorem dX1_countHeld_34 : decode cX1_countHeld 34 = .ok (.iload_n 1, 1) := dk_27 (dk_at dksX1_countHeld_1 10 rfl rfl)
theorem dX1_countHeld_35 : decode cX1_countHeld 35 = .ok (.aload_n 3, 1) := dk_45 (dk_at dksX1_countHeld_1 11 rfl rfl)
theorem dX1_countHeld_36 : decode cX1_countHeld 36 = .ok (.invokevirtual 365, 3) := dk_182 1 109 (dk_at dksX1_countHeld_1 12 rfl rfl)
theorem dX1_countHeld_39 : decode cX1_countHeld 39 = .ok (.ifCond .eq 7, 3) := dk_153 0 7 (dk_at dksX1_countHeld_1 15 rfl rfl)
theorem dX1_countHeld_42 : decode cX1_countHeld 42 = .ok (.iconst 0, 1) := dk_3 (dk_at dksX1_countHeld_1 18 rfl rfl)
theorem dX1_countHeld_43 : decode cX1_countHeld 43 = .ok (.goto 4, 3) := dk_167 0 4 (dk_at dksX1_countHeld_1 19 rfl rfl)
theorem dX1_countHeld_46 : decode cX1_countHeld 46 = .ok (.iconst 1, 1) := dk_4 (dk_at dksX1_countHeld_1 22 rfl rfl)
theorem dX1_countHeld_47 : decode cX1_countHeld 47 = .ok (.iadd, 1) := dk_96 (dk_at dksX1_countHeld_1 23 rfl rfl)
theorem dX1_countHeld_48 : decode cX1_countHeld 48 = .ok (.istore_n 1, 1) := dk_60 (dk_at dksX1_countHeld_2 0 rfl rfl)
theorem dX1_countHeld_49 : decode cX1_countHeld 49 = .ok (.goto (-34), 3) := dk_167 255 222 (dk_at dksX1_countHeld_2 1 rfl rfl)
theorem dX1_countHeld_52 : decode cX1_countHeld 52 = .ok (.iload_n 1, 1) := dk_27 (dk_at dksX1_countHeld_2 4 rfl rfl)
theorem dX1_countHeld_53 : decode cX1_countHeld 53 = .ok (.ireturn, 1) := dk_172 (dk_at dksX1_countHeld_2 5 rfl rfl)
abbrev cX1_countPinned : ByteArray := prog_1_method_51_code
def yX1_countPinned : MethodName := ⟨RX1, "countPinned", "()I"⟩
def dkwX1_countPinned_1 : List UInt8 := [180, 0, 54, 28, 182, 1, 112, 96, 60, 132, 2, 1, 167, 255, 226, 27, 172]
abbrev dktX1_countPinned_1 : List UInt8 := dkwX1_countPinned_1 ++ []
def dkwX1_countPinned_0 : List UInt8 := [3, 60, 3, 61, 28, 42, 180, 0, 54, 180, 0, 150, 185, 0, 154, 1, 0, 162, 0, 20, 27, 42]
abbrev dktX1_countPinned_0 : List UInt8 := dkwX1_countPinned_0 ++ dktX1_countPinned_1
theorem dksX1_countPinned_0 : cX1_countPinned.data.toList.drop 0 = dktX1_countPinned_0 := by decide +kernel
theorem dksX1_countPinned_1 : cX1_countPinned.data.toList.drop 22 = dktX1_countPinned_1 := dk_seg dksX1_countPinned_0 22 rfl rfl
theorem dX1_countPinned_0 : decode cX1_countPinned 0 = .ok (.iconst 0, 1) := dk_3 (dk_at dksX1_countPinned_0 0 rfl rfl)
theorem dX1_countPinned_1 : decode cX1_countPinned 1 = .ok (.istore_n 1, 1) := dk_60 (dk_at dksX1_countPinned_0 1 rfl rfl)
theorem dX1_countPinned_2 : decode cX1_countPinned 2 = .ok (.iconst 0, 1) := dk_3 (dk_at dksX1_countPinned_0 2 rfl rfl)
theorem dX1_countPinned_3 : decode cX1_countPinned 3 = .ok (.istore_n 2, 1) := dk_61 (dk_at dksX1_countPinned_0 3 rfl rfl)
theorem dX1_countPinned_4 : decode cX1_countPinned 4 = .ok (.iload_n 2, 1) := dk_28 (dk_at dksX1_countPinned_0 4 rfl rfl)
theorem dX1_countPinned_5 : decode cX1_countPinned 5 = .ok (.aload_n 0, 1) := dk_42 (dk_at dksX1_countPinned_0 5 rfl rfl)
theorem dX1_countPinned_6 : decode cX1_countPinned 6 = .ok (.getfield 54, 3) := dk_180 0 54 (dk_at dksX1_countPinned_0 6 rfl rfl)
theorem dX1_countPinned_9 : decode cX1_countPinned 9 = .ok (.getfield 150, 3) := dk_180 0 150 (dk_at dksX1_countPinned_0 9 rfl rfl)
theorem dX1_countPinned_12 : decode cX1_countPinned 12 = .ok (.invokeinterface 154 1, 5) := by decide +kernel
theorem dX1_countPinned_17 : decode cX1_countPinned 17 = .ok (.if_icmp .ge 20, 3) := dk_162 0 20 (dk_at dksX1_countPinned_0 17 rfl rfl)
theorem dX1_countPinned_20 : decode cX1_countPinned 20 = .ok (.iload_n 1, 1) := dk_27 (dk_at dksX1_countPinned_0 20 rfl rfl)
theorem dX1_countPinned_21 : decode cX1_countPinned 21 = .ok (.aload_n 0, 1) := dk_42 (dk_at dksX1_countPinned_0 21 rfl rfl)
theorem dX1_countPinned_22 : decode cX1_countPinned 22 = .ok (.getfield 54, 3) := dk_180 0 54 (dk_at dksX1_countPinned_1 0 rfl rfl)
theorem dX1_countPinned_25 : decode cX1_countPinned 25 = .ok (.iload_n 2, 1) := dk_28 (dk_at dksX1_countPinned_1 3 rfl rfl)
theorem dX1_countPinned_26 : decode cX1_countPinned 26 = .ok (.invokevirtual 368, 3) := dk_182 1 112 (dk_at dksX1_countPinned_1 4 rfl rfl)
theorem dX1_countPinned_29 : decode cX1_countPinned 29 = .ok (.iadd, 1) := dk_96 (dk_at dksX1_countPinned_1 7 rfl rfl)
theorem dX1_countPinned_30 : decode cX1_countPinned 30 = .ok (.istore_n 1, 1) := dk_60 (dk_at dksX1_countPinned_1 8 rfl rfl)
theorem dX1_countPinned_31 : decode cX1_countPinned 31 = .ok (.iinc 2 1, 3) := dk_132 2 1 (dk_at dksX1_countPinned_1 9 rfl rfl)
theorem dX1_countPinned_34 : decode cX1_countPinned 34 = .ok (.goto (-30), 3) := dk_167 255 226 (dk_at dksX1_countPinned_1 12 rfl rfl)
theorem dX1_countPinned_37 : decode cX1_countPinned 37 = .ok (.iload_n 1, 1) := dk_27 (dk_at dksX1_countPinned_1 15 rfl rfl)
theorem dX1_countPinned_38 : decode cX1_countPinned 38 = .ok (.ireturn, 1) := dk_172 (dk_at dksX1_countPinned_1 16 rfl rfl)
abbrev cX1_undo : ByteArray := prog_1_method_54_code
def yX1_undo : MethodName := ⟨RX1, "undo", "()I"⟩
def dkwX1_undo_1 : List UInt8 := [180, 0, 61, 185, 1, 142, 1, 0, 192, 0, 51, 181, 0, 54, 42, 180, 0, 61, 185, 0, 82, 1, 0, 172]
abbrev dktX1_undo_1 : List UInt8 := dkwX1_undo_1 ++ []
def dkwX1_undo_0 : List UInt8 := [42, 180, 0, 61, 185, 1, 141, 1, 0, 154, 0, 7, 4, 167, 0, 4, 3, 184, 1, 22, 42, 42]
abbrev dktX1_undo_0 : List UInt8 := dkwX1_undo_0 ++ dktX1_undo_1
theorem dksX1_undo_0 : cX1_undo.data.toList.drop 0 = dktX1_undo_0 := by decide +kernel
theorem dksX1_undo_1 : cX1_undo.data.toList.drop 22 = dktX1_undo_1 := dk_seg dksX1_undo_0 22 rfl rfl
theorem dX1_undo_0 : decode cX1_undo 0 = .ok (.aload_n 0, 1) := dk_42 (dk_at dksX1_undo_0 0 rfl rfl)
theorem dX1_undo_1 : decode cX1_undo 1 = .ok (.getfield 61, 3) := dk_180 0 61 (dk_at dksX1_undo_0 1 rfl rfl)
theorem dX1_undo_4 : decode cX1_undo 4 = .ok (.invokeinterface 397 1, 5) := by decide +kernel
theorem dX1_undo_9 : decode cX1_undo 9 = .ok (.ifCond .ne 7, 3) := dk_154 0 7 (dk_at dksX1_undo_0 9 rfl rfl)
theorem dX1_undo_12 : decode cX1_undo 12 = .ok (.iconst 1, 1) := dk_4 (dk_at dksX1_undo_0 12 rfl rfl)
theorem dX1_undo_13 : decode cX1_undo 13 = .ok (.goto 4, 3) := dk_167 0 4 (dk_at dksX1_undo_0 13 rfl rfl)
theorem dX1_undo_16 : decode cX1_undo 16 = .ok (.iconst 0, 1) := dk_3 (dk_at dksX1_undo_0 16 rfl rfl)
theorem dX1_undo_17 : decode cX1_undo 17 = .ok (.invokestatic 278, 3) := dk_184 1 22 (dk_at dksX1_undo_0 17 rfl rfl)
theorem dX1_undo_20 : decode cX1_undo 20 = .ok (.aload_n 0, 1) := dk_42 (dk_at dksX1_undo_0 20 rfl rfl)
theorem dX1_undo_21 : decode cX1_undo 21 = .ok (.aload_n 0, 1) := dk_42 (dk_at dksX1_undo_0 21 rfl rfl)
theorem dX1_undo_22 : decode cX1_undo 22 = .ok (.getfield 61, 3) := dk_180 0 61 (dk_at dksX1_undo_1 0 rfl rfl)
theorem dX1_undo_25 : decode cX1_undo 25 = .ok (.invokeinterface 398 1, 5) := by decide +kernel
theorem dX1_undo_30 : decode cX1_undo 30 = .ok (.checkcast 51, 3) := dk_192 0 51 (dk_at dksX1_undo_1 8 rfl rfl)
theorem dX1_undo_33 : decode cX1_undo 33 = .ok (.putfield 54, 3) := dk_181 0 54 (dk_at dksX1_undo_1 11 rfl rfl)
theorem dX1_undo_36 : decode cX1_undo 36 = .ok (.aload_n 0, 1) := dk_42 (dk_at dksX1_undo_1 14 rfl rfl)
theorem dX1_undo_37 : decode cX1_undo 37 = .ok (.getfield 61, 3) := dk_180 0 61 (dk_at dksX1_undo_1 15 rfl rfl)
theorem dX1_undo_40 : decode cX1_undo 40 = .ok (.invokeinterface 82 1, 5) := by decide +kernel
theorem dX1_undo_45 : decode cX1_undo 45 = .ok (.ireturn, 1) := dk_172 (dk_at dksX1_undo_1 23 rfl rfl)
abbrev cX1_restore : ByteArray := prog_1_method_56_code
def yX1_restore : MethodName := ⟨RX1, "restore", "()I"⟩
def dkwX1_restore_1 : List UInt8 := [180, 0, 61, 185, 1, 148, 1, 0, 42, 180, 0, 54, 180, 0, 253, 172]
abbrev dktX1_restore_1 : List UInt8 := dkwX1_restore_1 ++ []
def dkwX1_restore_0 : List UInt8 := [42, 180, 1, 145, 198, 0, 7, 4, 167, 0, 4, 3, 184, 1, 22, 42, 42, 180, 1, 145, 181, 0, 54, 42]
abbrev dktX1_restore_0 : List UInt8 := dkwX1_restore_0 ++ dktX1_restore_1
theorem dksX1_restore_0 : cX1_restore.data.toList.drop 0 = dktX1_restore_0 := by decide +kernel
theorem dksX1_restore_1 : cX1_restore.data.toList.drop 24 = dktX1_restore_1 := dk_seg dksX1_restore_0 24 rfl rfl
theorem dX1_restore_0 : decode cX1_restore 0 = .ok (.aload_n 0, 1) := dk_42 (dk_at dksX1_restore_0 0 rfl rfl)
theorem dX1_restore_1 : decode cX1_restore 1 = .ok (.getfield 401, 3) := dk_180 1 145 (dk_at dksX1_restore_0 1 rfl rfl)
theorem dX1_restore_4 : decode cX1_restore 4 = .ok (.ifnull 7, 3) := dk_198 0 7 (dk_at dksX1_restore_0 4 rfl rfl)
theorem dX1_restore_7 : decode cX1_restore 7 = .ok (.iconst 1, 1) := dk_4 (dk_at dksX1_restore_0 7 rfl rfl)
theorem dX1_restore_8 : decode cX1_restore 8 = .ok (.goto 4, 3) := dk_167 0 4 (dk_at dksX1_restore_0 8 rfl rfl)
theorem dX1_restore_11 : decode cX1_restore 11 = .ok (.iconst 0, 1) := dk_3 (dk_at dksX1_restore_0 11 rfl rfl)
theorem dX1_restore_12 : decode cX1_restore 12 = .ok (.invokestatic 278, 3) := dk_184 1 22 (dk_at dksX1_restore_0 12 rfl rfl)
theorem dX1_restore_15 : decode cX1_restore 15 = .ok (.aload_n 0, 1) := dk_42 (dk_at dksX1_restore_0 15 rfl rfl)
theorem dX1_restore_16 : decode cX1_restore 16 = .ok (.aload_n 0, 1) := dk_42 (dk_at dksX1_restore_0 16 rfl rfl)
theorem dX1_restore_17 : decode cX1_restore 17 = .ok (.getfield 401, 3) := dk_180 1 145 (dk_at dksX1_restore_0 17 rfl rfl)
theorem dX1_restore_20 : decode cX1_restore 20 = .ok (.putfield 54, 3) := dk_181 0 54 (dk_at dksX1_restore_0 20 rfl rfl)
theorem dX1_restore_23 : decode cX1_restore 23 = .ok (.aload_n 0, 1) := dk_42 (dk_at dksX1_restore_0 23 rfl rfl)
theorem dX1_restore_24 : decode cX1_restore 24 = .ok (.getfield 61, 3) := dk_180 0 61 (dk_at dksX1_restore_1 0 rfl rfl)
theorem dX1_restore_27 : decode cX1_restore 27 = .ok (.invokeinterface 404 1, 5) := by decide +kernel
theorem dX1_restore_32 : decode cX1_restore 32 = .ok (.aload_n 0, 1) := dk_42 (dk_at dksX1_restore_1 8 rfl rfl)
theorem dX1_restore_33 : decode cX1_restore 33 = .ok (.getfield 54, 3) := dk_180 0 54 (dk_at dksX1_restore_1 9 rfl rfl)
theorem dX1_restore_36 : decode cX1_restore 36 = .ok (.getfield 253, 3) := dk_180 0 253 (dk_at dksX1_restore_1 12 rfl rfl)
theorem dX1_restore_39 : decode cX1_restore 39 = .ok (.ireturn, 1) := dk_172 (dk_at dksX1_restore_1 15 rfl rfl)
abbrev cX2_init : ByteArray := prog_9_method_1_code
def yX2_init : MethodName := ⟨RX2, "<init>", "()V"⟩
def dkwX2_init_3 : List UInt8 := [188, 10, 181, 0, 45, 42, 5, 5, 182, 0, 48, 177]
abbrev dktX2_init_3 : List UInt8 := dkwX2_init_3 ++ []
def dkwX2_init_2 : List UInt8 := [188, 10, 181, 0, 36, 42, 16, 16, 188, 10, 181, 0, 39, 42, 16, 16, 188, 10, 181, 0, 42, 42, 6]
abbrev dktX2_init_2 : List UInt8 := dkwX2_init_2 ++ dktX2_init_3
def dkwX2_init_1 : List UInt8 := [187, 0, 22, 89, 183, 0, 24, 181, 0, 25, 42, 187, 0, 29, 89, 183, 0, 31, 181, 0, 32, 42, 7]
abbrev dktX2_init_1 : List UInt8 := dkwX2_init_1 ++ dktX2_init_2
def dkwX2_init_0 : List UInt8 := [42, 183, 0, 3, 42, 16, 64, 188, 10, 181, 0, 9, 42, 187, 0, 15, 89, 183, 0, 17, 181, 0, 18, 42]
abbrev dktX2_init_0 : List UInt8 := dkwX2_init_0 ++ dktX2_init_1
theorem dksX2_init_0 : cX2_init.data.toList.drop 0 = dktX2_init_0 := by decide +kernel
theorem dksX2_init_1 : cX2_init.data.toList.drop 24 = dktX2_init_1 := dk_seg dksX2_init_0 24 rfl rfl
theorem dksX2_init_2 : cX2_init.data.toList.drop 47 = dktX2_init_2 := dk_seg dksX2_init_1 23 rfl rfl
theorem dksX2_init_3 : cX2_init.data.toList.drop 70 = dktX2_init_3 := dk_seg dksX2_init_2 23 rfl rfl
theorem dX2_init_0 : decode cX2_init 0 = .ok (.aload_n 0, 1) := dk_42 (dk_at dksX2_init_0 0 rfl rfl)
theorem dX2_init_1 : decode cX2_init 1 = .ok (.invokespecial 3, 3) := dk_183 0 3 (dk_at dksX2_init_0 1 rfl rfl)
theorem dX2_init_4 : decode cX2_init 4 = .ok (.aload_n 0, 1) := dk_42 (dk_at dksX2_init_0 4 rfl rfl)
theorem dX2_init_5 : decode cX2_init 5 = .ok (.bipush 64, 2) := dk_16 64 (dk_at dksX2_init_0 5 rfl rfl)
theorem dX2_init_7 : decode cX2_init 7 = .ok (.newarray .int, 2) := dk_188_10 (dk_at dksX2_init_0 7 rfl rfl)
theorem dX2_init_9 : decode cX2_init 9 = .ok (.putfield 9, 3) := dk_181 0 9 (dk_at dksX2_init_0 9 rfl rfl)
theorem dX2_init_12 : decode cX2_init 12 = .ok (.aload_n 0, 1) := dk_42 (dk_at dksX2_init_0 12 rfl rfl)
theorem dX2_init_13 : decode cX2_init 13 = .ok (.new 15, 3) := dk_187 0 15 (dk_at dksX2_init_0 13 rfl rfl)
theorem dX2_init_16 : decode cX2_init 16 = .ok (.dup, 1) := dk_89 (dk_at dksX2_init_0 16 rfl rfl)
theorem dX2_init_17 : decode cX2_init 17 = .ok (.invokespecial 17, 3) := dk_183 0 17 (dk_at dksX2_init_0 17 rfl rfl)
theorem dX2_init_20 : decode cX2_init 20 = .ok (.putfield 18, 3) := dk_181 0 18 (dk_at dksX2_init_0 20 rfl rfl)
theorem dX2_init_23 : decode cX2_init 23 = .ok (.aload_n 0, 1) := dk_42 (dk_at dksX2_init_0 23 rfl rfl)
theorem dX2_init_24 : decode cX2_init 24 = .ok (.new 22, 3) := dk_187 0 22 (dk_at dksX2_init_1 0 rfl rfl)
theorem dX2_init_27 : decode cX2_init 27 = .ok (.dup, 1) := dk_89 (dk_at dksX2_init_1 3 rfl rfl)
theorem dX2_init_28 : decode cX2_init 28 = .ok (.invokespecial 24, 3) := dk_183 0 24 (dk_at dksX2_init_1 4 rfl rfl)
theorem dX2_init_31 : decode cX2_init 31 = .ok (.putfield 25, 3) := dk_181 0 25 (dk_at dksX2_init_1 7 rfl rfl)
theorem dX2_init_34 : decode cX2_init 34 = .ok (.aload_n 0, 1) := dk_42 (dk_at dksX2_init_1 10 rfl rfl)
theorem dX2_init_35 : decode cX2_init 35 = .ok (.new 29, 3) := dk_187 0 29 (dk_at dksX2_init_1 11 rfl rfl)
theorem dX2_init_38 : decode cX2_init 38 = .ok (.dup, 1) := dk_89 (dk_at dksX2_init_1 14 rfl rfl)
theorem dX2_init_39 : decode cX2_init 39 = .ok (.invokespecial 31, 3) := dk_183 0 31 (dk_at dksX2_init_1 15 rfl rfl)
theorem dX2_init_42 : decode cX2_init 42 = .ok (.putfield 32, 3) := dk_181 0 32 (dk_at dksX2_init_1 18 rfl rfl)
theorem dX2_init_45 : decode cX2_init 45 = .ok (.aload_n 0, 1) := dk_42 (dk_at dksX2_init_1 21 rfl rfl)
theorem dX2_init_46 : decode cX2_init 46 = .ok (.iconst 4, 1) := dk_7 (dk_at dksX2_init_1 22 rfl rfl)
theorem dX2_init_47 : decode cX2_init 47 = .ok (.newarray .int, 2) := dk_188_10 (dk_at dksX2_init_2 0 rfl rfl)
theorem dX2_init_49 : decode cX2_init 49 = .ok (.putfield 36, 3) := dk_181 0 36 (dk_at dksX2_init_2 2 rfl rfl)
theorem dX2_init_52 : decode cX2_init 52 = .ok (.aload_n 0, 1) := dk_42 (dk_at dksX2_init_2 5 rfl rfl)
theorem dX2_init_53 : decode cX2_init 53 = .ok (.bipush 16, 2) := dk_16 16 (dk_at dksX2_init_2 6 rfl rfl)
theorem dX2_init_55 : decode cX2_init 55 = .ok (.newarray .int, 2) := dk_188_10 (dk_at dksX2_init_2 8 rfl rfl)
theorem dX2_init_57 : decode cX2_init 57 = .ok (.putfield 39, 3) := dk_181 0 39 (dk_at dksX2_init_2 10 rfl rfl)
theorem dX2_init_60 : decode cX2_init 60 = .ok (.aload_n 0, 1) := dk_42 (dk_at dksX2_init_2 13 rfl rfl)
theorem dX2_init_61 : decode cX2_init 61 = .ok (.bipush 16, 2) := dk_16 16 (dk_at dksX2_init_2 14 rfl rfl)
theorem dX2_init_63 : decode cX2_init 63 = .ok (.newarray .int, 2) := dk_188_10 (dk_at dksX2_init_2 16 rfl rfl)
theorem dX2_init_65 : decode cX2_init 65 = .ok (.putfield 42, 3) := dk_181 0 42 (dk_at dksX2_init_2 18 rfl rfl)
theorem dX2_init_68 : decode cX2_init 68 = .ok (.aload_n 0, 1) := dk_42 (dk_at dksX2_init_2 21 rfl rfl)
theorem dX2_init_69 : decode cX2_init 69 = .ok (.iconst 3, 1) := dk_6 (dk_at dksX2_init_2 22 rfl rfl)
theorem dX2_init_70 : decode cX2_init 70 = .ok (.newarray .int, 2) := dk_188_10 (dk_at dksX2_init_3 0 rfl rfl)
theorem dX2_init_72 : decode cX2_init 72 = .ok (.putfield 45, 3) := dk_181 0 45 (dk_at dksX2_init_3 2 rfl rfl)
theorem dX2_init_75 : decode cX2_init 75 = .ok (.aload_n 0, 1) := dk_42 (dk_at dksX2_init_3 5 rfl rfl)
theorem dX2_init_76 : decode cX2_init 76 = .ok (.iconst 2, 1) := dk_5 (dk_at dksX2_init_3 6 rfl rfl)
theorem dX2_init_77 : decode cX2_init 77 = .ok (.iconst 2, 1) := dk_5 (dk_at dksX2_init_3 7 rfl rfl)
theorem dX2_init_78 : decode cX2_init 78 = .ok (.invokevirtual 48, 3) := dk_182 0 48 (dk_at dksX2_init_3 8 rfl rfl)
theorem dX2_init_81 : decode cX2_init 81 = .ok (.return_, 1) := dk_177 (dk_at dksX2_init_3 11 rfl rfl)
abbrev cX2_shapesAnew : ByteArray := prog_9_method_3_code
def yX2_shapesAnew : MethodName := ⟨RX2, "shapesAnew", "(II)V"⟩
def dkwX2_shapesAnew_3 : List UInt8 := [132, 3, 1, 167, 255, 195, 42, 28, 181, 0, 91, 42, 180, 0, 32, 182, 0, 135, 42, 3, 181, 0, 95, 177]
abbrev dktX2_shapesAnew_3 : List UInt8 := dkwX2_shapesAnew_3 ++ []
def dkwX2_shapesAnew_2 : List UInt8 := [185, 0, 83, 2, 0, 87, 132, 5, 1, 167, 255, 230, 42, 180, 0, 25, 25, 4, 185, 0, 83, 2, 0, 87]
abbrev dktX2_shapesAnew_2 : List UInt8 := dkwX2_shapesAnew_2 ++ dktX2_shapesAnew_3
def dkwX2_shapesAnew_1 : List UInt8 := [58, 4, 3, 54, 5, 21, 5, 28, 162, 0, 26, 25, 4, 187, 0, 78, 89, 21, 5, 183, 0, 132]
abbrev dktX2_shapesAnew_1 : List UInt8 := dkwX2_shapesAnew_1 ++ dktX2_shapesAnew_2
def dkwX2_shapesAnew_0 : List UInt8 := [42, 180, 0, 25, 185, 0, 129, 1, 0, 3, 62, 29, 27, 162, 0, 62, 187, 0, 22, 89, 183, 0, 24]
abbrev dktX2_shapesAnew_0 : List UInt8 := dkwX2_shapesAnew_0 ++ dktX2_shapesAnew_1
theorem dksX2_shapesAnew_0 : cX2_shapesAnew.data.toList.drop 0 = dktX2_shapesAnew_0 := by decide +kernel
theorem dksX2_shapesAnew_1 : cX2_shapesAnew.data.toList.drop 23 = dktX2_shapesAnew_1 := dk_seg dksX2_shapesAnew_0 23 rfl rfl
theorem dksX2_shapesAnew_2 : cX2_shapesAnew.data.toList.drop 45 = dktX2_shapesAnew_2 := dk_seg dksX2_shapesAnew_1 22 rfl rfl
theorem dksX2_shapesAnew_3 : cX2_shapesAnew.data.toList.drop 69 = dktX2_shapesAnew_3 := dk_seg dksX2_shapesAnew_2 24 rfl rfl
theorem dX2_shapesAnew_0 : decode cX2_shapesAnew 0 = .ok (.aload_n 0, 1) := dk_42 (dk_at dksX2_shapesAnew_0 0 rfl rfl)
theorem dX2_shapesAnew_1 : decode cX2_shapesAnew 1 = .ok (.getfield 25, 3) := dk_180 0 25 (dk_at dksX2_shapesAnew_0 1 rfl rfl)
theorem dX2_shapesAnew_4 : decode cX2_shapesAnew 4 = .ok (.invokeinterface 129 1, 5) := by decide +kernel
theorem dX2_shapesAnew_9 : decode cX2_shapesAnew 9 = .ok (.iconst 0, 1) := dk_3 (dk_at dksX2_shapesAnew_0 9 rfl rfl)
theorem dX2_shapesAnew_10 : decode cX2_shapesAnew 10 = .ok (.istore_n 3, 1) := dk_62 (dk_at dksX2_shapesAnew_0 10 rfl rfl)
theorem dX2_shapesAnew_11 : decode cX2_shapesAnew 11 = .ok (.iload_n 3, 1) := dk_29 (dk_at dksX2_shapesAnew_0 11 rfl rfl)
theorem dX2_shapesAnew_12 : decode cX2_shapesAnew 12 = .ok (.iload_n 1, 1) := dk_27 (dk_at dksX2_shapesAnew_0 12 rfl rfl)
theorem dX2_shapesAnew_13 : decode cX2_shapesAnew 13 = .ok (.if_icmp .ge 62, 3) := dk_162 0 62 (dk_at dksX2_shapesAnew_0 13 rfl rfl)
theorem dX2_shapesAnew_16 : decode cX2_shapesAnew 16 = .ok (.new 22, 3) := dk_187 0 22 (dk_at dksX2_shapesAnew_0 16 rfl rfl)
theorem dX2_shapesAnew_19 : decode cX2_shapesAnew 19 = .ok (.dup, 1) := dk_89 (dk_at dksX2_shapesAnew_0 19 rfl rfl)
theorem dX2_shapesAnew_20 : decode cX2_shapesAnew 20 = .ok (.invokespecial 24, 3) := dk_183 0 24 (dk_at dksX2_shapesAnew_0 20 rfl rfl)
theorem dX2_shapesAnew_23 : decode cX2_shapesAnew 23 = .ok (.astore 4, 2) := dk_58 4 (dk_at dksX2_shapesAnew_1 0 rfl rfl)
theorem dX2_shapesAnew_25 : decode cX2_shapesAnew 25 = .ok (.iconst 0, 1) := dk_3 (dk_at dksX2_shapesAnew_1 2 rfl rfl)
theorem dX2_shapesAnew_26 : decode cX2_shapesAnew 26 = .ok (.istore 5, 2) := dk_54 5 (dk_at dksX2_shapesAnew_1 3 rfl rfl)
theorem dX2_shapesAnew_28 : decode cX2_shapesAnew 28 = .ok (.iload 5, 2) := dk_21 5 (dk_at dksX2_shapesAnew_1 5 rfl rfl)
theorem dX2_shapesAnew_30 : decode cX2_shapesAnew 30 = .ok (.iload_n 2, 1) := dk_28 (dk_at dksX2_shapesAnew_1 7 rfl rfl)
theorem dX2_shapesAnew_31 : decode cX2_shapesAnew 31 = .ok (.if_icmp .ge 26, 3) := dk_162 0 26 (dk_at dksX2_shapesAnew_1 8 rfl rfl)
theorem dX2_shapesAnew_34 : decode cX2_shapesAnew 34 = .ok (.aload 4, 2) := dk_25 4 (dk_at dksX2_shapesAnew_1 11 rfl rfl)
theorem dX2_shapesAnew_36 : decode cX2_shapesAnew 36 = .ok (.new 78, 3) := dk_187 0 78 (dk_at dksX2_shapesAnew_1 13 rfl rfl)
theorem dX2_shapesAnew_39 : decode cX2_shapesAnew 39 = .ok (.dup, 1) := dk_89 (dk_at dksX2_shapesAnew_1 16 rfl rfl)
theorem dX2_shapesAnew_40 : decode cX2_shapesAnew 40 = .ok (.iload 5, 2) := dk_21 5 (dk_at dksX2_shapesAnew_1 17 rfl rfl)
theorem dX2_shapesAnew_42 : decode cX2_shapesAnew 42 = .ok (.invokespecial 132, 3) := dk_183 0 132 (dk_at dksX2_shapesAnew_1 19 rfl rfl)
theorem dX2_shapesAnew_45 : decode cX2_shapesAnew 45 = .ok (.invokeinterface 83 2, 5) := by decide +kernel
theorem dX2_shapesAnew_50 : decode cX2_shapesAnew 50 = .ok (.pop, 1) := dk_87 (dk_at dksX2_shapesAnew_2 5 rfl rfl)
theorem dX2_shapesAnew_51 : decode cX2_shapesAnew 51 = .ok (.iinc 5 1, 3) := dk_132 5 1 (dk_at dksX2_shapesAnew_2 6 rfl rfl)
theorem dX2_shapesAnew_54 : decode cX2_shapesAnew 54 = .ok (.goto (-26), 3) := dk_167 255 230 (dk_at dksX2_shapesAnew_2 9 rfl rfl)
theorem dX2_shapesAnew_57 : decode cX2_shapesAnew 57 = .ok (.aload_n 0, 1) := dk_42 (dk_at dksX2_shapesAnew_2 12 rfl rfl)
theorem dX2_shapesAnew_58 : decode cX2_shapesAnew 58 = .ok (.getfield 25, 3) := dk_180 0 25 (dk_at dksX2_shapesAnew_2 13 rfl rfl)
theorem dX2_shapesAnew_61 : decode cX2_shapesAnew 61 = .ok (.aload 4, 2) := dk_25 4 (dk_at dksX2_shapesAnew_2 16 rfl rfl)
theorem dX2_shapesAnew_63 : decode cX2_shapesAnew 63 = .ok (.invokeinterface 83 2, 5) := by decide +kernel
theorem dX2_shapesAnew_68 : decode cX2_shapesAnew 68 = .ok (.pop, 1) := dk_87 (dk_at dksX2_shapesAnew_2 23 rfl rfl)
theorem dX2_shapesAnew_69 : decode cX2_shapesAnew 69 = .ok (.iinc 3 1, 3) := dk_132 3 1 (dk_at dksX2_shapesAnew_3 0 rfl rfl)
theorem dX2_shapesAnew_72 : decode cX2_shapesAnew 72 = .ok (.goto (-61), 3) := dk_167 255 195 (dk_at dksX2_shapesAnew_3 3 rfl rfl)
theorem dX2_shapesAnew_75 : decode cX2_shapesAnew 75 = .ok (.aload_n 0, 1) := dk_42 (dk_at dksX2_shapesAnew_3 6 rfl rfl)
theorem dX2_shapesAnew_76 : decode cX2_shapesAnew 76 = .ok (.iload_n 2, 1) := dk_28 (dk_at dksX2_shapesAnew_3 7 rfl rfl)
theorem dX2_shapesAnew_77 : decode cX2_shapesAnew 77 = .ok (.putfield 91, 3) := dk_181 0 91 (dk_at dksX2_shapesAnew_3 8 rfl rfl)
theorem dX2_shapesAnew_80 : decode cX2_shapesAnew 80 = .ok (.aload_n 0, 1) := dk_42 (dk_at dksX2_shapesAnew_3 11 rfl rfl)
theorem dX2_shapesAnew_81 : decode cX2_shapesAnew 81 = .ok (.getfield 32, 3) := dk_180 0 32 (dk_at dksX2_shapesAnew_3 12 rfl rfl)
theorem dX2_shapesAnew_84 : decode cX2_shapesAnew 84 = .ok (.invokevirtual 135, 3) := dk_182 0 135 (dk_at dksX2_shapesAnew_3 15 rfl rfl)
theorem dX2_shapesAnew_87 : decode cX2_shapesAnew 87 = .ok (.aload_n 0, 1) := dk_42 (dk_at dksX2_shapesAnew_3 18 rfl rfl)
theorem dX2_shapesAnew_88 : decode cX2_shapesAnew 88 = .ok (.iconst 0, 1) := dk_3 (dk_at dksX2_shapesAnew_3 19 rfl rfl)
theorem dX2_shapesAnew_89 : decode cX2_shapesAnew 89 = .ok (.putfield 95, 3) := dk_181 0 95 (dk_at dksX2_shapesAnew_3 20 rfl rfl)
theorem dX2_shapesAnew_92 : decode cX2_shapesAnew 92 = .ok (.return_, 1) := dk_177 (dk_at dksX2_shapesAnew_3 23 rfl rfl)
abbrev cX2_init_2 : ByteArray := prog_9_method_2_code
def yX2_init_2 : MethodName := ⟨RX2, "<init>", "(LWordCache$Machine;)V"⟩
def dkwX2_init_2_15 : List UInt8 := [181, 0, 120, 42, 43, 180, 0, 123, 181, 0, 123, 42, 43, 180, 0, 126, 181, 0, 126, 177]
abbrev dktX2_init_2_15 : List UInt8 := dkwX2_init_2_15 ++ []
def dkwX2_init_2_14 : List UInt8 := [181, 0, 111, 42, 43, 180, 0, 114, 181, 0, 114, 42, 43, 180, 0, 117, 181, 0, 117, 42, 43, 180, 0, 120]
abbrev dktX2_init_2_14 : List UInt8 := dkwX2_init_2_14 ++ dktX2_init_2_15
def dkwX2_init_2_13 : List UInt8 := [181, 0, 101, 42, 43, 180, 0, 104, 181, 0, 104, 42, 43, 180, 0, 108, 181, 0, 108, 42, 43, 180, 0, 111]
abbrev dktX2_init_2_13 : List UInt8 := dkwX2_init_2_13 ++ dktX2_init_2_14
def dkwX2_init_2_12 : List UInt8 := [181, 0, 91, 42, 43, 180, 0, 95, 181, 0, 95, 42, 43, 180, 0, 98, 181, 0, 98, 42, 43, 180, 0, 101]
abbrev dktX2_init_2_12 : List UInt8 := dkwX2_init_2_12 ++ dktX2_init_2_13
def dkwX2_init_2_11 : List UInt8 := [16, 16, 184, 0, 52, 43, 180, 0, 45, 3, 42, 180, 0, 45, 3, 6, 184, 0, 52, 42, 43, 180, 0, 91]
abbrev dktX2_init_2_11 : List UInt8 := dkwX2_init_2_11 ++ dktX2_init_2_12
def dkwX2_init_2_10 : List UInt8 := [180, 0, 39, 3, 42, 180, 0, 39, 3, 16, 16, 184, 0, 52, 43, 180, 0, 42, 3, 42, 180, 0, 42, 3]
abbrev dktX2_init_2_10 : List UInt8 := dkwX2_init_2_10 ++ dktX2_init_2_11
def dkwX2_init_2_9 : List UInt8 := [180, 0, 32, 182, 0, 87, 87, 43, 180, 0, 36, 3, 42, 180, 0, 36, 3, 7, 184, 0, 52, 43]
abbrev dktX2_init_2_9 : List UInt8 := dkwX2_init_2_9 ++ dktX2_init_2_10
def dkwX2_init_2_8 : List UInt8 := [167, 255, 217, 42, 180, 0, 25, 25, 4, 185, 0, 83, 2, 0, 87, 167, 255, 166, 42, 180, 0, 32, 43]
abbrev dktX2_init_2_8 : List UInt8 := dkwX2_init_2_8 ++ dktX2_init_2_9
def dkwX2_init_2_7 : List UInt8 := [192, 0, 78, 58, 6, 25, 4, 187, 0, 78, 89, 25, 6, 183, 0, 80, 185, 0, 83, 2, 0, 87]
abbrev dktX2_init_2_7 : List UInt8 := dkwX2_init_2_7 ++ dktX2_init_2_8
def dkwX2_init_2_6 : List UInt8 := [185, 0, 62, 1, 0, 58, 5, 25, 5, 185, 0, 68, 1, 0, 153, 0, 35, 25, 5, 185, 0, 74, 1, 0]
abbrev dktX2_init_2_6 : List UInt8 := dkwX2_init_2_6 ++ dktX2_init_2_7
def dkwX2_init_2_5 : List UInt8 := [153, 0, 87, 44, 185, 0, 74, 1, 0, 192, 0, 63, 78, 187, 0, 22, 89, 183, 0, 24, 58, 4, 45]
abbrev dktX2_init_2_5 : List UInt8 := dkwX2_init_2_5 ++ dktX2_init_2_6
def dkwX2_init_2_4 : List UInt8 := [43, 180, 0, 18, 182, 0, 58, 43, 180, 0, 25, 185, 0, 62, 1, 0, 77, 44, 185, 0, 68, 1, 0]
abbrev dktX2_init_2_4 : List UInt8 := dkwX2_init_2_4 ++ dktX2_init_2_5
def dkwX2_init_2_3 : List UInt8 := [188, 10, 181, 0, 45, 43, 180, 0, 9, 3, 42, 180, 0, 9, 3, 16, 64, 184, 0, 52, 42, 180, 0, 18]
abbrev dktX2_init_2_3 : List UInt8 := dkwX2_init_2_3 ++ dktX2_init_2_4
def dkwX2_init_2_2 : List UInt8 := [188, 10, 181, 0, 36, 42, 16, 16, 188, 10, 181, 0, 39, 42, 16, 16, 188, 10, 181, 0, 42, 42, 6]
abbrev dktX2_init_2_2 : List UInt8 := dkwX2_init_2_2 ++ dktX2_init_2_3
def dkwX2_init_2_1 : List UInt8 := [187, 0, 22, 89, 183, 0, 24, 181, 0, 25, 42, 187, 0, 29, 89, 183, 0, 31, 181, 0, 32, 42, 7]
abbrev dktX2_init_2_1 : List UInt8 := dkwX2_init_2_1 ++ dktX2_init_2_2
def dkwX2_init_2_0 : List UInt8 := [42, 183, 0, 3, 42, 16, 64, 188, 10, 181, 0, 9, 42, 187, 0, 15, 89, 183, 0, 17, 181, 0, 18, 42]
abbrev dktX2_init_2_0 : List UInt8 := dkwX2_init_2_0 ++ dktX2_init_2_1
theorem dksX2_init_2_0 : cX2_init_2.data.toList.drop 0 = dktX2_init_2_0 := by decide +kernel
theorem dksX2_init_2_1 : cX2_init_2.data.toList.drop 24 = dktX2_init_2_1 := dk_seg dksX2_init_2_0 24 rfl rfl
theorem dksX2_init_2_2 : cX2_init_2.data.toList.drop 47 = dktX2_init_2_2 := dk_seg dksX2_init_2_1 23 rfl rfl
theorem dksX2_init_2_3 : cX2_init_2.data.toList.drop 70 = dktX2_init_2_3 := dk_seg dksX2_init_2_2 23 rfl rfl
theorem dksX2_init_2_4 : cX2_init_2.data.toList.drop 94 = dktX2_init_2_4 := dk_seg dksX2_init_2_3 24 rfl rfl
theorem dksX2_init_2_5 : cX2_init_2.data.toList.drop 117 = dktX2_init_2_5 := dk_seg dksX2_init_2_4 23 rfl rfl
theorem dksX2_init_2_6 : cX2_init_2.data.toList.drop 140 = dktX2_init_2_6 := dk_seg dksX2_init_2_5 23 rfl rfl
theorem dksX2_init_2_7 : cX2_init_2.data.toList.drop 164 = dktX2_init_2_7 := dk_seg dksX2_init_2_6 24 rfl rfl
theorem dksX2_init_2_8 : cX2_init_2.data.toList.drop 186 = dktX2_init_2_8 := dk_seg dksX2_init_2_7 22 rfl rfl
theorem dksX2_init_2_9 : cX2_init_2.data.toList.drop 209 = dktX2_init_2_9 := dk_seg dksX2_init_2_8 23 rfl rfl
theorem dksX2_init_2_10 : cX2_init_2.data.toList.drop 231 = dktX2_init_2_10 := dk_seg dksX2_init_2_9 22 rfl rfl
theorem dksX2_init_2_11 : cX2_init_2.data.toList.drop 255 = dktX2_init_2_11 := dk_seg dksX2_init_2_10 24 rfl rfl
theorem dksX2_init_2_12 : cX2_init_2.data.toList.drop 279 = dktX2_init_2_12 := dk_seg dksX2_init_2_11 24 rfl rfl
theorem dksX2_init_2_13 : cX2_init_2.data.toList.drop 303 = dktX2_init_2_13 := dk_seg dksX2_init_2_12 24 rfl rfl
theorem dksX2_init_2_14 : cX2_init_2.data.toList.drop 327 = dktX2_init_2_14 := dk_seg dksX2_init_2_13 24 rfl rfl
theorem dksX2_init_2_15 : cX2_init_2.data.toList.drop 351 = dktX2_init_2_15 := dk_seg dksX2_init_2_14 24 rfl rfl
theorem dX2_init_2_0 : decode cX2_init_2 0 = .ok (.aload_n 0, 1) := dk_42 (dk_at dksX2_init_2_0 0 rfl rfl)
theorem dX2_init_2_1 : decode cX2_init_2 1 = .ok (.invokespecial 3, 3) := dk_183 0 3 (dk_at dksX2_init_2_0 1 rfl rfl)
theorem dX2_init_2_4 : decode cX2_init_2 4 = .ok (.aload_n 0, 1) := dk_42 (dk_at dksX2_init_2_0 4 rfl rfl)
theorem dX2_init_2_5 : decode cX2_init_2 5 = .ok (.bipush 64, 2) := dk_16 64 (dk_at dksX2_init_2_0 5 rfl rfl)
theorem dX2_init_2_7 : decode cX2_init_2 7 = .ok (.newarray .int, 2) := dk_188_10 (dk_at dksX2_init_2_0 7 rfl rfl)
theorem dX2_init_2_9 : decode cX2_init_2 9 = .ok (.putfield 9, 3) := dk_181 0 9 (dk_at dksX2_init_2_0 9 rfl rfl)
theorem dX2_init_2_12 : decode cX2_init_2 12 = .ok (.aload_n 0, 1) := dk_42 (dk_at dksX2_init_2_0 12 rfl rfl)
theorem dX2_init_2_13 : decode cX2_init_2 13 = .ok (.new 15, 3) := dk_187 0 15 (dk_at dksX2_init_2_0 13 rfl rfl)
theorem dX2_init_2_16 : decode cX2_init_2 16 = .ok (.dup, 1) := dk_89 (dk_at dksX2_init_2_0 16 rfl rfl)
theorem dX2_init_2_17 : decode cX2_init_2 17 = .ok (.invokespecial 17, 3) := dk_183 0 17 (dk_at dksX2_init_2_0 17 rfl rfl)
theorem dX2_init_2_20 : decode cX2_init_2 20 = .ok (.putfield 18, 3) := dk_181 0 18 (dk_at dksX2_init_2_0 20 rfl rfl)
theorem dX2_init_2_23 : decode cX2_init_2 23 = .ok (.aload_n 0, 1) := dk_42 (dk_at dksX2_init_2_0 23 rfl rfl)
theorem dX2_init_2_24 : decode cX2_init_2 24 = .ok (.new 22, 3) := dk_187 0 22 (dk_at dksX2_init_2_1 0 rfl rfl)
theorem dX2_init_2_27 : decode cX2_init_2 27 = .ok (.dup, 1) := dk_89 (dk_at dksX2_init_2_1 3 rfl rfl)
theorem dX2_init_2_28 : decode cX2_init_2 28 = .ok (.invokespecial 24, 3) := dk_183 0 24 (dk_at dksX2_init_2_1 4 rfl rfl)
theorem dX2_init_2_31 : decode cX2_init_2 31 = .ok (.putfield 25, 3) := dk_181 0 25 (dk_at dksX2_init_2_1 7 rfl rfl)
theorem dX2_init_2_34 : decode cX2_init_2 34 = .ok (.aload_n 0, 1) := dk_42 (dk_at dksX2_init_2_1 10 rfl rfl)
theorem dX2_init_2_35 : decode cX2_init_2 35 = .ok (.new 29, 3) := dk_187 0 29 (dk_at dksX2_init_2_1 11 rfl rfl)
theorem dX2_init_2_38 : decode cX2_init_2 38 = .ok (.dup, 1) := dk_89 (dk_at dksX2_init_2_1 14 rfl rfl)
theorem dX2_init_2_39 : decode cX2_init_2 39 = .ok (.invokespecial 31, 3) := dk_183 0 31 (dk_at dksX2_init_2_1 15 rfl rfl)
theorem dX2_init_2_42 : decode cX2_init_2 42 = .ok (.putfield 32, 3) := dk_181 0 32 (dk_at dksX2_init_2_1 18 rfl rfl)
theorem dX2_init_2_45 : decode cX2_init_2 45 = .ok (.aload_n 0, 1) := dk_42 (dk_at dksX2_init_2_1 21 rfl rfl)
theorem dX2_init_2_46 : decode cX2_init_2 46 = .ok (.iconst 4, 1) := dk_7 (dk_at dksX2_init_2_1 22 rfl rfl)
theorem dX2_init_2_47 : decode cX2_init_2 47 = .ok (.newarray .int, 2) := dk_188_10 (dk_at dksX2_init_2_2 0 rfl rfl)
theorem dX2_init_2_49 : decode cX2_init_2 49 = .ok (.putfield 36, 3) := dk_181 0 36 (dk_at dksX2_init_2_2 2 rfl rfl)
theorem dX2_init_2_52 : decode cX2_init_2 52 = .ok (.aload_n 0, 1) := dk_42 (dk_at dksX2_init_2_2 5 rfl rfl)
theorem dX2_init_2_53 : decode cX2_init_2 53 = .ok (.bipush 16, 2) := dk_16 16 (dk_at dksX2_init_2_2 6 rfl rfl)
theorem dX2_init_2_55 : decode cX2_init_2 55 = .ok (.newarray .int, 2) := dk_188_10 (dk_at dksX2_init_2_2 8 rfl rfl)
theorem dX2_init_2_57 : decode cX2_init_2 57 = .ok (.putfield 39, 3) := dk_181 0 39 (dk_at dksX2_init_2_2 10 rfl rfl)
theorem dX2_init_2_60 : decode cX2_init_2 60 = .ok (.aload_n 0, 1) := dk_42 (dk_at dksX2_init_2_2 13 rfl rfl)
theorem dX2_init_2_61 : decode cX2_init_2 61 = .ok (.bipush 16, 2) := dk_16 16 (dk_at dksX2_init_2_2 14 rfl rfl)
theorem dX2_init_2_63 : decode cX2_init_2 63 = .ok (.newarray .int, 2) := dk_188_10 (dk_at dksX2_init_2_2 16 rfl rfl)
theorem dX2_init_2_65 : decode cX2_init_2 65 = .ok (.putfield 42, 3) := dk_181 0 42 (dk_at dksX2_init_2_2 18 rfl rfl)
theorem dX2_init_2_68 : decode cX2_init_2 68 = .ok (.aload_n 0, 1) := dk_42 (dk_at dksX2_init_2_2 21 rfl rfl)
theorem dX2_init_2_69 : decode cX2_init_2 69 = .ok (.iconst 3, 1) := dk_6 (dk_at dksX2_init_2_2 22 rfl rfl)
theorem dX2_init_2_70 : decode cX2_init_2 70 = .ok (.newarray .int, 2) := dk_188_10 (dk_at dksX2_init_2_3 0 rfl rfl)
theorem dX2_init_2_72 : decode cX2_init_2 72 = .ok (.putfield 45, 3) := dk_181 0 45 (dk_at dksX2_init_2_3 2 rfl rfl)
theorem dX2_init_2_75 : decode cX2_init_2 75 = .ok (.aload_n 1, 1) := dk_43 (dk_at dksX2_init_2_3 5 rfl rfl)
theorem dX2_init_2_76 : decode cX2_init_2 76 = .ok (.getfield 9, 3) := dk_180 0 9 (dk_at dksX2_init_2_3 6 rfl rfl)
theorem dX2_init_2_79 : decode cX2_init_2 79 = .ok (.iconst 0, 1) := dk_3 (dk_at dksX2_init_2_3 9 rfl rfl)
theorem dX2_init_2_80 : decode cX2_init_2 80 = .ok (.aload_n 0, 1) := dk_42 (dk_at dksX2_init_2_3 10 rfl rfl)
theorem dX2_init_2_81 : decode cX2_init_2 81 = .ok (.getfield 9, 3) := dk_180 0 9 (dk_at dksX2_init_2_3 11 rfl rfl)
theorem dX2_init_2_84 : decode cX2_init_2 84 = .ok (.iconst 0, 1) := dk_3 (dk_at dksX2_init_2_3 14 rfl rfl)
theorem dX2_init_2_85 : decode cX2_init_2 85 = .ok (.bipush 64, 2) := dk_16 64 (dk_at dksX2_init_2_3 15 rfl rfl)
theorem dX2_init_2_87 : decode cX2_init_2 87 = .ok (.invokestatic 52, 3) := dk_184 0 52 (dk_at dksX2_init_2_3 17 rfl rfl)
theorem dX2_init_2_90 : decode cX2_init_2 90 = .ok (.aload_n 0, 1) := dk_42 (dk_at dksX2_init_2_3 20 rfl rfl)
theorem dX2_init_2_91 : decode cX2_init_2 91 = .ok (.getfield 18, 3) := dk_180 0 18 (dk_at dksX2_init_2_3 21 rfl rfl)
theorem dX2_init_2_94 : decode cX2_init_2 94 = .ok (.aload_n 1, 1) := dk_43 (dk_at dksX2_init_2_4 0 rfl rfl)
theorem dX2_init_2_95 : decode cX2_init_2 95 = .ok (.getfield 18, 3) := dk_180 0 18 (dk_at dksX2_init_2_4 1 rfl rfl)
theorem dX2_init_2_98 : decode cX2_init_2 98 = .ok (.invokevirtual 58, 3) := dk_182 0 58 (dk_at dksX2_init_2_4 4 rfl rfl)
theorem dX2_init_2_101 : decode cX2_init_2 101 = .ok (.aload_n 1, 1) := dk_43 (dk_at dksX2_init_2_4 7 rfl rfl)
theorem dX2_init_2_102 : decode cX2_init_2 102 = .ok (.getfield 25, 3) := dk_180 0 25 (dk_at dksX2_init_2_4 8 rfl rfl)
theorem dX2_init_2_105 : decode cX2_init_2 105 = .ok (.invokeinterface 62 1, 5) := by decide +kernel
theorem dX2_init_2_110 : decode cX2_init_2 110 = .ok (.astore_n 2, 1) := dk_77 (dk_at dksX2_init_2_4 16 rfl rfl)
theorem dX2_init_2_111 : decode cX2_init_2 111 = .ok (.aload_n 2, 1) := dk_44 (dk_at dksX2_init_2_4 17 rfl rfl)
theorem dX2_init_2_112 : decode cX2_init_2 112 = .ok (.invokeinterface 68 1, 5) := by decide +kernel
theorem dX2_init_2_117 : decode cX2_init_2 117 = .ok (.ifCond .eq 87, 3) := dk_153 0 87 (dk_at dksX2_init_2_5 0 rfl rfl)
theorem dX2_init_2_120 : decode cX2_init_2 120 = .ok (.aload_n 2, 1) := dk_44 (dk_at dksX2_init_2_5 3 rfl rfl)
theorem dX2_init_2_121 : decode cX2_init_2 121 = .ok (.invokeinterface 74 1, 5) := by decide +kernel
theorem dX2_init_2_126 : decode cX2_init_2 126 = .ok (.checkcast 63, 3) := dk_192 0 63 (dk_at dksX2_init_2_5 9 rfl rfl)
theorem dX2_init_2_129 : decode cX2_init_2 129 = .ok (.astore_n 3, 1) := dk_78 (dk_at dksX2_init_2_5 12 rfl rfl)
theorem dX2_init_2_130 : decode cX2_init_2 130 = .ok (.new 22, 3) := dk_187 0 22 (dk_at dksX2_init_2_5 13 rfl rfl)
theorem dX2_init_2_133 : decode cX2_init_2 133 = .ok (.dup, 1) := dk_89 (dk_at dksX2_init_2_5 16 rfl rfl)
theorem dX2_init_2_134 : decode cX2_init_2 134 = .ok (.invokespecial 24, 3) := dk_183 0 24 (dk_at dksX2_init_2_5 17 rfl rfl)
theorem dX2_init_2_137 : decode cX2_init_2 137 = .ok (.astore 4, 2) := dk_58 4 (dk_at dksX2_init_2_5 20 rfl rfl)
theorem dX2_init_2_139 : decode cX2_init_2 139 = .ok (.aload_n 3, 1) := dk_45 (dk_at dksX2_init_2_5 22 rfl rfl)
theorem dX2_init_2_140 : decode cX2_init_2 140 = .ok (.invokeinterface 62 1, 5) := by decide +kernel
theorem dX2_init_2_145 : decode cX2_init_2 145 = .ok (.astore 5, 2) := dk_58 5 (dk_at dksX2_init_2_6 5 rfl rfl)
theorem dX2_init_2_147 : decode cX2_init_2 147 = .ok (.aload 5, 2) := dk_25 5 (dk_at dksX2_init_2_6 7 rfl rfl)
theorem dX2_init_2_149 : decode cX2_init_2 149 = .ok (.invokeinterface 68 1, 5) := by decide +kernel
theorem dX2_init_2_154 : decode cX2_init_2 154 = .ok (.ifCond .eq 35, 3) := dk_153 0 35 (dk_at dksX2_init_2_6 14 rfl rfl)
theorem dX2_init_2_157 : decode cX2_init_2 157 = .ok (.aload 5, 2) := dk_25 5 (dk_at dksX2_init_2_6 17 rfl rfl)
theorem dX2_init_2_159 : decode cX2_init_2 159 = .ok (.invokeinterface 74 1, 5) := by decide +kernel
theorem dX2_init_2_164 : decode cX2_init_2 164 = .ok (.checkcast 78, 3) := dk_192 0 78 (dk_at dksX2_init_2_7 0 rfl rfl)
theorem dX2_init_2_167 : decode cX2_init_2 167 = .ok (.astore 6, 2) := dk_58 6 (dk_at dksX2_init_2_7 3 rfl rfl)
theorem dX2_init_2_169 : decode cX2_init_2 169 = .ok (.aload 4, 2) := dk_25 4 (dk_at dksX2_init_2_7 5 rfl rfl)
theorem dX2_init_2_171 : decode cX2_init_2 171 = .ok (.new 78, 3) := dk_187 0 78 (dk_at dksX2_init_2_7 7 rfl rfl)
theorem dX2_init_2_174 : decode cX2_init_2 174 = .ok (.dup, 1) := dk_89 (dk_at dksX2_init_2_7 10 rfl rfl)
theorem dX2_init_2_175 : decode cX2_init_2 175 = .ok (.aload 6, 2) := dk_25 6 (dk_at dksX2_init_2_7 11 rfl rfl)
theorem dX2_init_2_177 : decode cX2_init_2 177 = .ok (.invokespecial 80, 3) := dk_183 0 80 (dk_at dksX2_init_2_7 13 rfl rfl)
theorem dX2_init_2_180 : decode cX2_init_2 180 = .ok (.invokeinterface 83 2, 5) := by decide +kernel
theorem dX2_init_2_185 : decode cX2_init_2 185 = .ok (.pop, 1) := dk_87 (dk_at dksX2_init_2_7 21 rfl rfl)
theorem dX2_init_2_186 : decode cX2_init_2 186 = .ok (.goto (-39), 3) := dk_167 255 217 (dk_at dksX2_init_2_8 0 rfl rfl)
theorem dX2_init_2_189 : decode cX2_init_2 189 = .ok (.aload_n 0, 1) := dk_42 (dk_at dksX2_init_2_8 3 rfl rfl)
theorem dX2_init_2_190 : decode cX2_init_2 190 = .ok (.getfield 25, 3) := dk_180 0 25 (dk_at dksX2_init_2_8 4 rfl rfl)
theorem dX2_init_2_193 : decode cX2_init_2 193 = .ok (.aload 4, 2) := dk_25 4 (dk_at dksX2_init_2_8 7 rfl rfl)
theorem dX2_init_2_195 : decode cX2_init_2 195 = .ok (.invokeinterface 83 2, 5) := by decide +kernel
theorem dX2_init_2_200 : decode cX2_init_2 200 = .ok (.pop, 1) := dk_87 (dk_at dksX2_init_2_8 14 rfl rfl)
theorem dX2_init_2_201 : decode cX2_init_2 201 = .ok (.goto (-90), 3) := dk_167 255 166 (dk_at dksX2_init_2_8 15 rfl rfl)
theorem dX2_init_2_204 : decode cX2_init_2 204 = .ok (.aload_n 0, 1) := dk_42 (dk_at dksX2_init_2_8 18 rfl rfl)
theorem dX2_init_2_205 : decode cX2_init_2 205 = .ok (.getfield 32, 3) := dk_180 0 32 (dk_at dksX2_init_2_8 19 rfl rfl)
theorem dX2_init_2_208 : decode cX2_init_2 208 = .ok (.aload_n 1, 1) := dk_43 (dk_at dksX2_init_2_8 22 rfl rfl)
theorem dX2_init_2_209 : decode cX2_init_2 209 = .ok (.getfield 32, 3) := dk_180 0 32 (dk_at dksX2_init_2_9 0 rfl rfl)
theorem dX2_init_2_212 : decode cX2_init_2 212 = .ok (.invokevirtual 87, 3) := dk_182 0 87 (dk_at dksX2_init_2_9 3 rfl rfl)
theorem dX2_init_2_215 : decode cX2_init_2 215 = .ok (.pop, 1) := dk_87 (dk_at dksX2_init_2_9 6 rfl rfl)
theorem dX2_init_2_216 : decode cX2_init_2 216 = .ok (.aload_n 1, 1) := dk_43 (dk_at dksX2_init_2_9 7 rfl rfl)
theorem dX2_init_2_217 : decode cX2_init_2 217 = .ok (.getfield 36, 3) := dk_180 0 36 (dk_at dksX2_init_2_9 8 rfl rfl)
theorem dX2_init_2_220 : decode cX2_init_2 220 = .ok (.iconst 0, 1) := dk_3 (dk_at dksX2_init_2_9 11 rfl rfl)
theorem dX2_init_2_221 : decode cX2_init_2 221 = .ok (.aload_n 0, 1) := dk_42 (dk_at dksX2_init_2_9 12 rfl rfl)
theorem dX2_init_2_222 : decode cX2_init_2 222 = .ok (.getfield 36, 3) := dk_180 0 36 (dk_at dksX2_init_2_9 13 rfl rfl)
theorem dX2_init_2_225 : decode cX2_init_2 225 = .ok (.iconst 0, 1) := dk_3 (dk_at dksX2_init_2_9 16 rfl rfl)
theorem dX2_init_2_226 : decode cX2_init_2 226 = .ok (.iconst 4, 1) := dk_7 (dk_at dksX2_init_2_9 17 rfl rfl)
theorem dX2_init_2_227 : decode cX2_init_2 227 = .ok (.invokestatic 52, 3) := dk_184 0 52 (dk_at dksX2_init_2_9 18 rfl rfl)
theorem dX2_init_2_230 : decode cX2_init_2 230 = .ok (.aload_n 1, 1) := dk_43 (dk_at dksX2_init_2_9 21 rfl rfl)
theorem dX2_init_2_231 : decode cX2_init_2 231 = .ok (.getfield 39, 3) := dk_180 0 39 (dk_at dksX2_init_2_10 0 rfl rfl)
theorem dX2_init_2_234 : decode cX2_init_2 234 = .ok (.iconst 0, 1) := dk_3 (dk_at dksX2_init_2_10 3 rfl rfl)
theorem dX2_init_2_235 : decode cX2_init_2 235 = .ok (.aload_n 0, 1) := dk_42 (dk_at dksX2_init_2_10 4 rfl rfl)
theorem dX2_init_2_236 : decode cX2_init_2 236 = .ok (.getfield 39, 3) := dk_180 0 39 (dk_at dksX2_init_2_10 5 rfl rfl)
theorem dX2_init_2_239 : decode cX2_init_2 239 = .ok (.iconst 0, 1) := dk_3 (dk_at dksX2_init_2_10 8 rfl rfl)
theorem dX2_init_2_240 : decode cX2_init_2 240 = .ok (.bipush 16, 2) := dk_16 16 (dk_at dksX2_init_2_10 9 rfl rfl)
theorem dX2_init_2_242 : decode cX2_init_2 242 = .ok (.invokestatic 52, 3) := dk_184 0 52 (dk_at dksX2_init_2_10 11 rfl rfl)
theorem dX2_init_2_245 : decode cX2_init_2 245 = .ok (.aload_n 1, 1) := dk_43 (dk_at dksX2_init_2_10 14 rfl rfl)
theorem dX2_init_2_246 : decode cX2_init_2 246 = .ok (.getfield 42, 3) := dk_180 0 42 (dk_at dksX2_init_2_10 15 rfl rfl)
theorem dX2_init_2_249 : decode cX2_init_2 249 = .ok (.iconst 0, 1) := dk_3 (dk_at dksX2_init_2_10 18 rfl rfl)
theorem dX2_init_2_250 : decode cX2_init_2 250 = .ok (.aload_n 0, 1) := dk_42 (dk_at dksX2_init_2_10 19 rfl rfl)
theorem dX2_init_2_251 : decode cX2_init_2 251 = .ok (.getfield 42, 3) := dk_180 0 42 (dk_at dksX2_init_2_10 20 rfl rfl)
theorem dX2_init_2_254 : decode cX2_init_2 254 = .ok (.iconst 0, 1) := dk_3 (dk_at dksX2_init_2_10 23 rfl rfl)
theorem dX2_init_2_255 : decode cX2_init_2 255 = .ok (.bipush 16, 2) := dk_16 16 (dk_at dksX2_init_2_11 0 rfl rfl)
theorem dX2_init_2_257 : decode cX2_init_2 257 = .ok (.invokestatic 52, 3) := dk_184 0 52 (dk_at dksX2_init_2_11 2 rfl rfl)
theorem dX2_init_2_260 : decode cX2_init_2 260 = .ok (.aload_n 1, 1) := dk_43 (dk_at dksX2_init_2_11 5 rfl rfl)
theorem dX2_init_2_261 : decode cX2_init_2 261 = .ok (.getfield 45, 3) := dk_180 0 45 (dk_at dksX2_init_2_11 6 rfl rfl)
theorem dX2_init_2_264 : decode cX2_init_2 264 = .ok (.iconst 0, 1) := dk_3 (dk_at dksX2_init_2_11 9 rfl rfl)
theorem dX2_init_2_265 : decode cX2_init_2 265 = .ok (.aload_n 0, 1) := dk_42 (dk_at dksX2_init_2_11 10 rfl rfl)
theorem dX2_init_2_266 : decode cX2_init_2 266 = .ok (.getfield 45, 3) := dk_180 0 45 (dk_at dksX2_init_2_11 11 rfl rfl)
theorem dX2_init_2_269 : decode cX2_init_2 269 = .ok (.iconst 0, 1) := dk_3 (dk_at dksX2_init_2_11 14 rfl rfl)
theorem dX2_init_2_270 : decode cX2_init_2 270 = .ok (.iconst 3, 1) := dk_6 (dk_at dksX2_init_2_11 15 rfl rfl)
theorem dX2_init_2_271 : decode cX2_init_2 271 = .ok (.invokestatic 52, 3) := dk_184 0 52 (dk_at dksX2_init_2_11 16 rfl rfl)
theorem dX2_init_2_274 : decode cX2_init_2 274 = .ok (.aload_n 0, 1) := dk_42 (dk_at dksX2_init_2_11 19 rfl rfl)
theorem dX2_init_2_275 : decode cX2_init_2 275 = .ok (.aload_n 1, 1) := dk_43 (dk_at dksX2_init_2_11 20 rfl rfl)
theorem dX2_init_2_276 : decode cX2_init_2 276 = .ok (.getfield 91, 3) := dk_180 0 91 (dk_at dksX2_init_2_11 21 rfl rfl)
theorem dX2_init_2_279 : decode cX2_init_2 279 = .ok (.putfield 91, 3) := dk_181 0 91 (dk_at dksX2_init_2_12 0 rfl rfl)
theorem dX2_init_2_282 : decode cX2_init_2 282 = .ok (.aload_n 0, 1) := dk_42 (dk_at dksX2_init_2_12 3 rfl rfl)
theorem dX2_init_2_283 : decode cX2_init_2 283 = .ok (.aload_n 1, 1) := dk_43 (dk_at dksX2_init_2_12 4 rfl rfl)
theorem dX2_init_2_284 : decode cX2_init_2 284 = .ok (.getfield 95, 3) := dk_180 0 95 (dk_at dksX2_init_2_12 5 rfl rfl)
theorem dX2_init_2_287 : decode cX2_init_2 287 = .ok (.putfield 95, 3) := dk_181 0 95 (dk_at dksX2_init_2_12 8 rfl rfl)
theorem dX2_init_2_290 : decode cX2_init_2 290 = .ok (.aload_n 0, 1) := dk_42 (dk_at dksX2_init_2_12 11 rfl rfl)
theorem dX2_init_2_291 : decode cX2_init_2 291 = .ok (.aload_n 1, 1) := dk_43 (dk_at dksX2_init_2_12 12 rfl rfl)
theorem dX2_init_2_292 : decode cX2_init_2 292 = .ok (.getfield 98, 3) := dk_180 0 98 (dk_at dksX2_init_2_12 13 rfl rfl)
theorem dX2_init_2_295 : decode cX2_init_2 295 = .ok (.putfield 98, 3) := dk_181 0 98 (dk_at dksX2_init_2_12 16 rfl rfl)
theorem dX2_init_2_298 : decode cX2_init_2 298 = .ok (.aload_n 0, 1) := dk_42 (dk_at dksX2_init_2_12 19 rfl rfl)
theorem dX2_init_2_299 : decode cX2_init_2 299 = .ok (.aload_n 1, 1) := dk_43 (dk_at dksX2_init_2_12 20 rfl rfl)
theorem dX2_init_2_300 : decode cX2_init_2 300 = .ok (.getfield 101, 3) := dk_180 0 101 (dk_at dksX2_init_2_12 21 rfl rfl)
theorem dX2_init_2_303 : decode cX2_init_2 303 = .ok (.putfield 101, 3) := dk_181 0 101 (dk_at dksX2_init_2_13 0 rfl rfl)
theorem dX2_init_2_306 : decode cX2_init_2 306 = .ok (.aload_n 0, 1) := dk_42 (dk_at dksX2_init_2_13 3 rfl rfl)
theorem dX2_init_2_307 : decode cX2_init_2 307 = .ok (.aload_n 1, 1) := dk_43 (dk_at dksX2_init_2_13 4 rfl rfl)
theorem dX2_init_2_308 : decode cX2_init_2 308 = .ok (.getfield 104, 3) := dk_180 0 104 (dk_at dksX2_init_2_13 5 rfl rfl)
theorem dX2_init_2_311 : decode cX2_init_2 311 = .ok (.putfield 104, 3) := dk_181 0 104 (dk_at dksX2_init_2_13 8 rfl rfl)
theorem dX2_init_2_314 : decode cX2_init_2 314 = .ok (.aload_n 0, 1) := dk_42 (dk_at dksX2_init_2_13 11 rfl rfl)
theorem dX2_init_2_315 : decode cX2_init_2 315 = .ok (.aload_n 1, 1) := dk_43 (dk_at dksX2_init_2_13 12 rfl rfl)
theorem dX2_init_2_316 : decode cX2_init_2 316 = .ok (.getfield 108, 3) := dk_180 0 108 (dk_at dksX2_init_2_13 13 rfl rfl)
theorem dX2_init_2_319 : decode cX2_init_2 319 = .ok (.putfield 108, 3) := dk_181 0 108 (dk_at dksX2_init_2_13 16 rfl rfl)
theorem dX2_init_2_322 : decode cX2_init_2 322 = .ok (.aload_n 0, 1) := dk_42 (dk_at dksX2_init_2_13 19 rfl rfl)
theorem dX2_init_2_323 : decode cX2_init_2 323 = .ok (.aload_n 1, 1) := dk_43 (dk_at dksX2_init_2_13 20 rfl rfl)
theorem dX2_init_2_324 : decode cX2_init_2 324 = .ok (.getfield 111, 3) := dk_180 0 111 (dk_at dksX2_init_2_13 21 rfl rfl)
theorem dX2_init_2_327 : decode cX2_init_2 327 = .ok (.putfield 111, 3) := dk_181 0 111 (dk_at dksX2_init_2_14 0 rfl rfl)
theorem dX2_init_2_330 : decode cX2_init_2 330 = .ok (.aload_n 0, 1) := dk_42 (dk_at dksX2_init_2_14 3 rfl rfl)
theorem dX2_init_2_331 : decode cX2_init_2 331 = .ok (.aload_n 1, 1) := dk_43 (dk_at dksX2_init_2_14 4 rfl rfl)
theorem dX2_init_2_332 : decode cX2_init_2 332 = .ok (.getfield 114, 3) := dk_180 0 114 (dk_at dksX2_init_2_14 5 rfl rfl)
theorem dX2_init_2_335 : decode cX2_init_2 335 = .ok (.putfield 114, 3) := dk_181 0 114 (dk_at dksX2_init_2_14 8 rfl rfl)
theorem dX2_init_2_338 : decode cX2_init_2 338 = .ok (.aload_n 0, 1) := dk_42 (dk_at dksX2_init_2_14 11 rfl rfl)
theorem dX2_init_2_339 : decode cX2_init_2 339 = .ok (.aload_n 1, 1) := dk_43 (dk_at dksX2_init_2_14 12 rfl rfl)
theorem dX2_init_2_340 : decode cX2_init_2 340 = .ok (.getfield 117, 3) := dk_180 0 117 (dk_at dksX2_init_2_14 13 rfl rfl)
theorem dX2_init_2_343 : decode cX2_init_2 343 = .ok (.putfield 117, 3) := dk_181 0 117 (dk_at dksX2_init_2_14 16 rfl rfl)
theorem dX2_init_2_346 : decode cX2_init_2 346 = .ok (.aload_n 0, 1) := dk_42 (dk_at dksX2_init_2_14 19 rfl rfl)
theorem dX2_init_2_347 : decode cX2_init_2 347 = .ok (.aload_n 1, 1) := dk_43 (dk_at dksX2_init_2_14 20 rfl rfl)
theorem dX2_init_2_348 : decode cX2_init_2 348 = .ok (.getfield 120, 3) := dk_180 0 120 (dk_at dksX2_init_2_14 21 rfl rfl)
theorem dX2_init_2_351 : decode cX2_init_2 351 = .ok (.putfield 120, 3) := dk_181 0 120 (dk_at dksX2_init_2_15 0 rfl rfl)
theorem dX2_init_2_354 : decode cX2_init_2 354 = .ok (.aload_n 0, 1) := dk_42 (dk_at dksX2_init_2_15 3 rfl rfl)
theorem dX2_init_2_355 : decode cX2_init_2 355 = .ok (.aload_n 1, 1) := dk_43 (dk_at dksX2_init_2_15 4 rfl rfl)
theorem dX2_init_2_356 : decode cX2_init_2 356 = .ok (.getfield 123, 3) := dk_180 0 123 (dk_at dksX2_init_2_15 5 rfl rfl)
theorem dX2_init_2_359 : decode cX2_init_2 359 = .ok (.putfield 123, 3) := dk_181 0 123 (dk_at dksX2_init_2_15 8 rfl rfl)
theorem dX2_init_2_362 : decode cX2_init_2 362 = .ok (.aload_n 0, 1) := dk_42 (dk_at dksX2_init_2_15 11 rfl rfl)
theorem dX2_init_2_363 : decode cX2_init_2 363 = .ok (.aload_n 1, 1) := dk_43 (dk_at dksX2_init_2_15 12 rfl rfl)
theorem dX2_init_2_364 : decode cX2_init_2 364 = .ok (.getfield 126, 3) := dk_180 0 126 (dk_at dksX2_init_2_15 13 rfl rfl)
theorem dX2_init_2_367 : decode cX2_init_2 367 = .ok (.putfield 126, 3) := dk_181 0 126 (dk_at dksX2_init_2_15 16 rfl rfl)
theorem dX2_init_2_370 : decode cX2_init_2 370 = .ok (.return_, 1) := dk_177 (dk_at dksX2_init_2_15 19 rfl rfl)
abbrev cX2_dirtyWords : ByteArray := prog_9_method_10_code
def yX2_dirtyWords : MethodName := ⟨RX2, "dirtyWords", "()I"⟩
def dkwX2_dirtyWords_1 : List UInt8 := [185, 0, 74, 1, 0, 192, 0, 78, 78, 27, 45, 182, 0, 184, 96, 60, 167, 255, 230, 27, 172]
abbrev dktX2_dirtyWords_1 : List UInt8 := dkwX2_dirtyWords_1 ++ []
def dkwX2_dirtyWords_0 : List UInt8 := [3, 60, 42, 182, 0, 180, 185, 0, 62, 1, 0, 77, 44, 185, 0, 68, 1, 0, 153, 0, 23, 44]
abbrev dktX2_dirtyWords_0 : List UInt8 := dkwX2_dirtyWords_0 ++ dktX2_dirtyWords_1
theorem dksX2_dirtyWords_0 : cX2_dirtyWords.data.toList.drop 0 = dktX2_dirtyWords_0 := by decide +kernel
theorem dksX2_dirtyWords_1 : cX2_dirtyWords.data.toList.drop 22 = dktX2_dirtyWords_1 := dk_seg dksX2_dirtyWords_0 22 rfl rfl
theorem dX2_dirtyWords_0 : decode cX2_dirtyWords 0 = .ok (.iconst 0, 1) := dk_3 (dk_at dksX2_dirtyWords_0 0 rfl rfl)
theorem dX2_dirtyWords_1 : decode cX2_dirtyWords 1 = .ok (.istore_n 1, 1) := dk_60 (dk_at dksX2_dirtyWords_0 1 rfl rfl)
theorem dX2_dirtyWords_2 : decode cX2_dirtyWords 2 = .ok (.aload_n 0, 1) := dk_42 (dk_at dksX2_dirtyWords_0 2 rfl rfl)
theorem dX2_dirtyWords_3 : decode cX2_dirtyWords 3 = .ok (.invokevirtual 180, 3) := dk_182 0 180 (dk_at dksX2_dirtyWords_0 3 rfl rfl)
theorem dX2_dirtyWords_6 : decode cX2_dirtyWords 6 = .ok (.invokeinterface 62 1, 5) := by decide +kernel
theorem dX2_dirtyWords_11 : decode cX2_dirtyWords 11 = .ok (.astore_n 2, 1) := dk_77 (dk_at dksX2_dirtyWords_0 11 rfl rfl)
theorem dX2_dirtyWords_12 : decode cX2_dirtyWords 12 = .ok (.aload_n 2, 1) := dk_44 (dk_at dksX2_dirtyWords_0 12 rfl rfl)
theorem dX2_dirtyWords_13 : decode cX2_dirtyWords 13 = .ok (.invokeinterface 68 1, 5) := by decide +kernel
theorem dX2_dirtyWords_18 : decode cX2_dirtyWords 18 = .ok (.ifCond .eq 23, 3) := dk_153 0 23 (dk_at dksX2_dirtyWords_0 18 rfl rfl)
theorem dX2_dirtyWords_21 : decode cX2_dirtyWords 21 = .ok (.aload_n 2, 1) := dk_44 (dk_at dksX2_dirtyWords_0 21 rfl rfl)
theorem dX2_dirtyWords_22 : decode cX2_dirtyWords 22 = .ok (.invokeinterface 74 1, 5) := by decide +kernel
theorem dX2_dirtyWords_27 : decode cX2_dirtyWords 27 = .ok (.checkcast 78, 3) := dk_192 0 78 (dk_at dksX2_dirtyWords_1 5 rfl rfl)
theorem dX2_dirtyWords_30 : decode cX2_dirtyWords 30 = .ok (.astore_n 3, 1) := dk_78 (dk_at dksX2_dirtyWords_1 8 rfl rfl)
theorem dX2_dirtyWords_31 : decode cX2_dirtyWords 31 = .ok (.iload_n 1, 1) := dk_27 (dk_at dksX2_dirtyWords_1 9 rfl rfl)
theorem dX2_dirtyWords_32 : decode cX2_dirtyWords 32 = .ok (.aload_n 3, 1) := dk_45 (dk_at dksX2_dirtyWords_1 10 rfl rfl)
theorem dX2_dirtyWords_33 : decode cX2_dirtyWords 33 = .ok (.invokevirtual 184, 3) := dk_182 0 184 (dk_at dksX2_dirtyWords_1 11 rfl rfl)
theorem dX2_dirtyWords_36 : decode cX2_dirtyWords 36 = .ok (.iadd, 1) := dk_96 (dk_at dksX2_dirtyWords_1 14 rfl rfl)
theorem dX2_dirtyWords_37 : decode cX2_dirtyWords 37 = .ok (.istore_n 1, 1) := dk_60 (dk_at dksX2_dirtyWords_1 15 rfl rfl)
theorem dX2_dirtyWords_38 : decode cX2_dirtyWords 38 = .ok (.goto (-26), 3) := dk_167 255 230 (dk_at dksX2_dirtyWords_1 16 rfl rfl)
theorem dX2_dirtyWords_41 : decode cX2_dirtyWords 41 = .ok (.iload_n 1, 1) := dk_27 (dk_at dksX2_dirtyWords_1 19 rfl rfl)
theorem dX2_dirtyWords_42 : decode cX2_dirtyWords 42 = .ok (.ireturn, 1) := dk_172 (dk_at dksX2_dirtyWords_1 20 rfl rfl)
abbrev cX2_allLines : ByteArray := prog_9_method_6_code
def yX2_allLines : MethodName := ⟨RX2, "allLines", "()Ljava/util/List;"⟩
def dkwX2_allLines_2 : List UInt8 := [43, 176]
abbrev dktX2_allLines_2 : List UInt8 := dkwX2_allLines_2 ++ []
def dkwX2_allLines_1 : List UInt8 := [153, 0, 24, 44, 185, 0, 74, 1, 0, 192, 0, 63, 78, 43, 45, 185, 0, 151, 2, 0, 87, 167, 255, 229]
abbrev dktX2_allLines_1 : List UInt8 := dkwX2_allLines_1 ++ dktX2_allLines_2
def dkwX2_allLines_0 : List UInt8 := [187, 0, 22, 89, 183, 0, 24, 76, 42, 180, 0, 25, 185, 0, 62, 1, 0, 77, 44, 185, 0, 68, 1, 0]
abbrev dktX2_allLines_0 : List UInt8 := dkwX2_allLines_0 ++ dktX2_allLines_1
theorem dksX2_allLines_0 : cX2_allLines.data.toList.drop 0 = dktX2_allLines_0 := by decide +kernel
theorem dksX2_allLines_1 : cX2_allLines.data.toList.drop 24 = dktX2_allLines_1 := dk_seg dksX2_allLines_0 24 rfl rfl
theorem dksX2_allLines_2 : cX2_allLines.data.toList.drop 48 = dktX2_allLines_2 := dk_seg dksX2_allLines_1 24 rfl rfl
theorem dX2_allLines_0 : decode cX2_allLines 0 = .ok (.new 22, 3) := dk_187 0 22 (dk_at dksX2_allLines_0 0 rfl rfl)
theorem dX2_allLines_3 : decode cX2_allLines 3 = .ok (.dup, 1) := dk_89 (dk_at dksX2_allLines_0 3 rfl rfl)
theorem dX2_allLines_4 : decode cX2_allLines 4 = .ok (.invokespecial 24, 3) := dk_183 0 24 (dk_at dksX2_allLines_0 4 rfl rfl)
theorem dX2_allLines_7 : decode cX2_allLines 7 = .ok (.astore_n 1, 1) := dk_76 (dk_at dksX2_allLines_0 7 rfl rfl)
theorem dX2_allLines_8 : decode cX2_allLines 8 = .ok (.aload_n 0, 1) := dk_42 (dk_at dksX2_allLines_0 8 rfl rfl)
theorem dX2_allLines_9 : decode cX2_allLines 9 = .ok (.getfield 25, 3) := dk_180 0 25 (dk_at dksX2_allLines_0 9 rfl rfl)
theorem dX2_allLines_12 : decode cX2_allLines 12 = .ok (.invokeinterface 62 1, 5) := by decide +kernel
theorem dX2_allLines_17 : decode cX2_allLines 17 = .ok (.astore_n 2, 1) := dk_77 (dk_at dksX2_allLines_0 17 rfl rfl)
theorem dX2_allLines_18 : decode cX2_allLines 18 = .ok (.aload_n 2, 1) := dk_44 (dk_at dksX2_allLines_0 18 rfl rfl)
theorem dX2_allLines_19 : decode cX2_allLines 19 = .ok (.invokeinterface 68 1, 5) := by decide +kernel
theorem dX2_allLines_24 : decode cX2_allLines 24 = .ok (.ifCond .eq 24, 3) := dk_153 0 24 (dk_at dksX2_allLines_1 0 rfl rfl)
theorem dX2_allLines_27 : decode cX2_allLines 27 = .ok (.aload_n 2, 1) := dk_44 (dk_at dksX2_allLines_1 3 rfl rfl)
theorem dX2_allLines_28 : decode cX2_allLines 28 = .ok (.invokeinterface 74 1, 5) := by decide +kernel
theorem dX2_allLines_33 : decode cX2_allLines 33 = .ok (.checkcast 63, 3) := dk_192 0 63 (dk_at dksX2_allLines_1 9 rfl rfl)
theorem dX2_allLines_36 : decode cX2_allLines 36 = .ok (.astore_n 3, 1) := dk_78 (dk_at dksX2_allLines_1 12 rfl rfl)
theorem dX2_allLines_37 : decode cX2_allLines 37 = .ok (.aload_n 1, 1) := dk_43 (dk_at dksX2_allLines_1 13 rfl rfl)
theorem dX2_allLines_38 : decode cX2_allLines 38 = .ok (.aload_n 3, 1) := dk_45 (dk_at dksX2_allLines_1 14 rfl rfl)
theorem dX2_allLines_39 : decode cX2_allLines 39 = .ok (.invokeinterface 151 2, 5) := by decide +kernel
theorem dX2_allLines_44 : decode cX2_allLines 44 = .ok (.pop, 1) := dk_87 (dk_at dksX2_allLines_1 20 rfl rfl)
theorem dX2_allLines_45 : decode cX2_allLines 45 = .ok (.goto (-27), 3) := dk_167 255 229 (dk_at dksX2_allLines_1 21 rfl rfl)
theorem dX2_allLines_48 : decode cX2_allLines 48 = .ok (.aload_n 1, 1) := dk_43 (dk_at dksX2_allLines_2 0 rfl rfl)
theorem dX2_allLines_49 : decode cX2_allLines 49 = .ok (.areturn, 1) := dk_176 (dk_at dksX2_allLines_2 1 rfl rfl)
abbrev cX2_sumOfWords : ByteArray := prog_9_method_35_code
def yX2_sumOfWords : MethodName := ⟨RX2, "sumOfWords", "()I"⟩
def dkwX2_sumOfWords_1 : List UInt8 := [27, 172]
abbrev dktX2_sumOfWords_1 : List UInt8 := dkwX2_sumOfWords_1 ++ []
def dkwX2_sumOfWords_0 : List UInt8 := [3, 60, 3, 61, 28, 16, 64, 162, 0, 17, 27, 42, 28, 182, 1, 59, 96, 60, 132, 2, 1, 167, 255, 239]
abbrev dktX2_sumOfWords_0 : List UInt8 := dkwX2_sumOfWords_0 ++ dktX2_sumOfWords_1
theorem dksX2_sumOfWords_0 : cX2_sumOfWords.data.toList.drop 0 = dktX2_sumOfWords_0 := by decide +kernel
theorem dksX2_sumOfWords_1 : cX2_sumOfWords.data.toList.drop 24 = dktX2_sumOfWords_1 := dk_seg dksX2_sumOfWords_0 24 rfl rfl
theorem dX2_sumOfWords_0 : decode cX2_sumOfWords 0 = .ok (.iconst 0, 1) := dk_3 (dk_at dksX2_sumOfWords_0 0 rfl rfl)
theorem dX2_sumOfWords_1 : decode cX2_sumOfWords 1 = .ok (.istore_n 1, 1) := dk_60 (dk_at dksX2_sumOfWords_0 1 rfl rfl)
theorem dX2_sumOfWords_2 : decode cX2_sumOfWords 2 = .ok (.iconst 0, 1) := dk_3 (dk_at dksX2_sumOfWords_0 2 rfl rfl)
theorem dX2_sumOfWords_3 : decode cX2_sumOfWords 3 = .ok (.istore_n 2, 1) := dk_61 (dk_at dksX2_sumOfWords_0 3 rfl rfl)
theorem dX2_sumOfWords_4 : decode cX2_sumOfWords 4 = .ok (.iload_n 2, 1) := dk_28 (dk_at dksX2_sumOfWords_0 4 rfl rfl)
theorem dX2_sumOfWords_5 : decode cX2_sumOfWords 5 = .ok (.bipush 64, 2) := dk_16 64 (dk_at dksX2_sumOfWords_0 5 rfl rfl)
theorem dX2_sumOfWords_7 : decode cX2_sumOfWords 7 = .ok (.if_icmp .ge 17, 3) := dk_162 0 17 (dk_at dksX2_sumOfWords_0 7 rfl rfl)
theorem dX2_sumOfWords_10 : decode cX2_sumOfWords 10 = .ok (.iload_n 1, 1) := dk_27 (dk_at dksX2_sumOfWords_0 10 rfl rfl)
theorem dX2_sumOfWords_11 : decode cX2_sumOfWords 11 = .ok (.aload_n 0, 1) := dk_42 (dk_at dksX2_sumOfWords_0 11 rfl rfl)
theorem dX2_sumOfWords_12 : decode cX2_sumOfWords 12 = .ok (.iload_n 2, 1) := dk_28 (dk_at dksX2_sumOfWords_0 12 rfl rfl)
theorem dX2_sumOfWords_13 : decode cX2_sumOfWords 13 = .ok (.invokevirtual 315, 3) := dk_182 1 59 (dk_at dksX2_sumOfWords_0 13 rfl rfl)
theorem dX2_sumOfWords_16 : decode cX2_sumOfWords 16 = .ok (.iadd, 1) := dk_96 (dk_at dksX2_sumOfWords_0 16 rfl rfl)
theorem dX2_sumOfWords_17 : decode cX2_sumOfWords 17 = .ok (.istore_n 1, 1) := dk_60 (dk_at dksX2_sumOfWords_0 17 rfl rfl)
theorem dX2_sumOfWords_18 : decode cX2_sumOfWords 18 = .ok (.iinc 2 1, 3) := dk_132 2 1 (dk_at dksX2_sumOfWords_0 18 rfl rfl)
theorem dX2_sumOfWords_21 : decode cX2_sumOfWords 21 = .ok (.goto (-17), 3) := dk_167 255 239 (dk_at dksX2_sumOfWords_0 21 rfl rfl)
theorem dX2_sumOfWords_24 : decode cX2_sumOfWords 24 = .ok (.iload_n 1, 1) := dk_27 (dk_at dksX2_sumOfWords_1 0 rfl rfl)
theorem dX2_sumOfWords_25 : decode cX2_sumOfWords 25 = .ok (.ireturn, 1) := dk_172 (dk_at dksX2_sumOfWords_1 1 rfl rfl)
abbrev cX2_wordAt : ByteArray := prog_9_method_11_code
def yX2_wordAt : MethodName := ⟨RX2, "wordAt", "(I)I"⟩
def dkwX2_wordAt_1 : List UInt8 := [180, 0, 191, 27, 7, 112, 46, 172]
abbrev dktX2_wordAt_1 : List UInt8 := dkwX2_wordAt_1 ++ []
def dkwX2_wordAt_0 : List UInt8 := [42, 27, 7, 108, 182, 0, 187, 77, 44, 199, 0, 12, 42, 180, 0, 9, 27, 46, 167, 0, 11, 44]
abbrev dktX2_wordAt_0 : List UInt8 := dkwX2_wordAt_0 ++ dktX2_wordAt_1
theorem dksX2_wordAt_0 : cX2_wordAt.data.toList.drop 0 = dktX2_wordAt_0 := by decide +kernel
theorem dksX2_wordAt_1 : cX2_wordAt.data.toList.drop 22 = dktX2_wordAt_1 := dk_seg dksX2_wordAt_0 22 rfl rfl
theorem dX2_wordAt_0 : decode cX2_wordAt 0 = .ok (.aload_n 0, 1) := dk_42 (dk_at dksX2_wordAt_0 0 rfl rfl)
theorem dX2_wordAt_1 : decode cX2_wordAt 1 = .ok (.iload_n 1, 1) := dk_27 (dk_at dksX2_wordAt_0 1 rfl rfl)
theorem dX2_wordAt_2 : decode cX2_wordAt 2 = .ok (.iconst 4, 1) := dk_7 (dk_at dksX2_wordAt_0 2 rfl rfl)
theorem dX2_wordAt_3 : decode cX2_wordAt 3 = .ok (.idiv, 1) := dk_108 (dk_at dksX2_wordAt_0 3 rfl rfl)
theorem dX2_wordAt_4 : decode cX2_wordAt 4 = .ok (.invokevirtual 187, 3) := dk_182 0 187 (dk_at dksX2_wordAt_0 4 rfl rfl)
theorem dX2_wordAt_7 : decode cX2_wordAt 7 = .ok (.astore_n 2, 1) := dk_77 (dk_at dksX2_wordAt_0 7 rfl rfl)
theorem dX2_wordAt_8 : decode cX2_wordAt 8 = .ok (.aload_n 2, 1) := dk_44 (dk_at dksX2_wordAt_0 8 rfl rfl)
theorem dX2_wordAt_9 : decode cX2_wordAt 9 = .ok (.ifnonnull 12, 3) := dk_199 0 12 (dk_at dksX2_wordAt_0 9 rfl rfl)
theorem dX2_wordAt_12 : decode cX2_wordAt 12 = .ok (.aload_n 0, 1) := dk_42 (dk_at dksX2_wordAt_0 12 rfl rfl)
theorem dX2_wordAt_13 : decode cX2_wordAt 13 = .ok (.getfield 9, 3) := dk_180 0 9 (dk_at dksX2_wordAt_0 13 rfl rfl)
theorem dX2_wordAt_16 : decode cX2_wordAt 16 = .ok (.iload_n 1, 1) := dk_27 (dk_at dksX2_wordAt_0 16 rfl rfl)
theorem dX2_wordAt_17 : decode cX2_wordAt 17 = .ok (.iaload, 1) := dk_46 (dk_at dksX2_wordAt_0 17 rfl rfl)
theorem dX2_wordAt_18 : decode cX2_wordAt 18 = .ok (.goto 11, 3) := dk_167 0 11 (dk_at dksX2_wordAt_0 18 rfl rfl)
theorem dX2_wordAt_21 : decode cX2_wordAt 21 = .ok (.aload_n 2, 1) := dk_44 (dk_at dksX2_wordAt_0 21 rfl rfl)
theorem dX2_wordAt_22 : decode cX2_wordAt 22 = .ok (.getfield 191, 3) := dk_180 0 191 (dk_at dksX2_wordAt_1 0 rfl rfl)
theorem dX2_wordAt_25 : decode cX2_wordAt 25 = .ok (.iload_n 1, 1) := dk_27 (dk_at dksX2_wordAt_1 3 rfl rfl)
theorem dX2_wordAt_26 : decode cX2_wordAt 26 = .ok (.iconst 4, 1) := dk_7 (dk_at dksX2_wordAt_1 4 rfl rfl)
theorem dX2_wordAt_27 : decode cX2_wordAt 27 = .ok (.irem, 1) := dk_112 (dk_at dksX2_wordAt_1 5 rfl rfl)
theorem dX2_wordAt_28 : decode cX2_wordAt 28 = .ok (.iaload, 1) := dk_46 (dk_at dksX2_wordAt_1 6 rfl rfl)
theorem dX2_wordAt_29 : decode cX2_wordAt 29 = .ok (.ireturn, 1) := dk_172 (dk_at dksX2_wordAt_1 7 rfl rfl)
abbrev cX2_holder : ByteArray := prog_9_method_5_code
def yX2_holder : MethodName := ⟨RX2, "holder", "(I)LWordCache$Line;"⟩
def dkwX2_holder_2 : List UInt8 := [160, 0, 5, 45, 176, 167, 255, 227, 1, 176]
abbrev dktX2_holder_2 : List UInt8 := dkwX2_holder_2 ++ []
def dkwX2_holder_1 : List UInt8 := [185, 0, 68, 1, 0, 153, 0, 26, 44, 185, 0, 74, 1, 0, 192, 0, 78, 78, 45, 180, 0, 148, 27]
abbrev dktX2_holder_1 : List UInt8 := dkwX2_holder_1 ++ dktX2_holder_2
def dkwX2_holder_0 : List UInt8 := [42, 180, 0, 25, 42, 27, 182, 0, 140, 185, 0, 144, 2, 0, 192, 0, 63, 185, 0, 62, 1, 0, 77, 44]
abbrev dktX2_holder_0 : List UInt8 := dkwX2_holder_0 ++ dktX2_holder_1
theorem dksX2_holder_0 : cX2_holder.data.toList.drop 0 = dktX2_holder_0 := by decide +kernel
theorem dksX2_holder_1 : cX2_holder.data.toList.drop 24 = dktX2_holder_1 := dk_seg dksX2_holder_0 24 rfl rfl
theorem dksX2_holder_2 : cX2_holder.data.toList.drop 47 = dktX2_holder_2 := dk_seg dksX2_holder_1 23 rfl rfl
theorem dX2_holder_0 : decode cX2_holder 0 = .ok (.aload_n 0, 1) := dk_42 (dk_at dksX2_holder_0 0 rfl rfl)
theorem dX2_holder_1 : decode cX2_holder 1 = .ok (.getfield 25, 3) := dk_180 0 25 (dk_at dksX2_holder_0 1 rfl rfl)
theorem dX2_holder_4 : decode cX2_holder 4 = .ok (.aload_n 0, 1) := dk_42 (dk_at dksX2_holder_0 4 rfl rfl)
theorem dX2_holder_5 : decode cX2_holder 5 = .ok (.iload_n 1, 1) := dk_27 (dk_at dksX2_holder_0 5 rfl rfl)
theorem dX2_holder_6 : decode cX2_holder 6 = .ok (.invokevirtual 140, 3) := dk_182 0 140 (dk_at dksX2_holder_0 6 rfl rfl)
theorem dX2_holder_9 : decode cX2_holder 9 = .ok (.invokeinterface 144 2, 5) := by decide +kernel
theorem dX2_holder_14 : decode cX2_holder 14 = .ok (.checkcast 63, 3) := dk_192 0 63 (dk_at dksX2_holder_0 14 rfl rfl)
theorem dX2_holder_17 : decode cX2_holder 17 = .ok (.invokeinterface 62 1, 5) := by decide +kernel
theorem dX2_holder_22 : decode cX2_holder 22 = .ok (.astore_n 2, 1) := dk_77 (dk_at dksX2_holder_0 22 rfl rfl)
theorem dX2_holder_23 : decode cX2_holder 23 = .ok (.aload_n 2, 1) := dk_44 (dk_at dksX2_holder_0 23 rfl rfl)
theorem dX2_holder_24 : decode cX2_holder 24 = .ok (.invokeinterface 68 1, 5) := by decide +kernel
theorem dX2_holder_29 : decode cX2_holder 29 = .ok (.ifCond .eq 26, 3) := dk_153 0 26 (dk_at dksX2_holder_1 5 rfl rfl)
theorem dX2_holder_32 : decode cX2_holder 32 = .ok (.aload_n 2, 1) := dk_44 (dk_at dksX2_holder_1 8 rfl rfl)
theorem dX2_holder_33 : decode cX2_holder 33 = .ok (.invokeinterface 74 1, 5) := by decide +kernel
theorem dX2_holder_38 : decode cX2_holder 38 = .ok (.checkcast 78, 3) := dk_192 0 78 (dk_at dksX2_holder_1 14 rfl rfl)
theorem dX2_holder_41 : decode cX2_holder 41 = .ok (.astore_n 3, 1) := dk_78 (dk_at dksX2_holder_1 17 rfl rfl)
theorem dX2_holder_42 : decode cX2_holder 42 = .ok (.aload_n 3, 1) := dk_45 (dk_at dksX2_holder_1 18 rfl rfl)
theorem dX2_holder_43 : decode cX2_holder 43 = .ok (.getfield 148, 3) := dk_180 0 148 (dk_at dksX2_holder_1 19 rfl rfl)
theorem dX2_holder_46 : decode cX2_holder 46 = .ok (.iload_n 1, 1) := dk_27 (dk_at dksX2_holder_1 22 rfl rfl)
theorem dX2_holder_47 : decode cX2_holder 47 = .ok (.if_icmp .ne 5, 3) := dk_160 0 5 (dk_at dksX2_holder_2 0 rfl rfl)
theorem dX2_holder_50 : decode cX2_holder 50 = .ok (.aload_n 3, 1) := dk_45 (dk_at dksX2_holder_2 3 rfl rfl)
theorem dX2_holder_51 : decode cX2_holder 51 = .ok (.areturn, 1) := dk_176 (dk_at dksX2_holder_2 4 rfl rfl)
theorem dX2_holder_52 : decode cX2_holder 52 = .ok (.goto (-29), 3) := dk_167 255 227 (dk_at dksX2_holder_2 5 rfl rfl)
theorem dX2_holder_55 : decode cX2_holder 55 = .ok (.aconst_null, 1) := dk_1 (dk_at dksX2_holder_2 8 rfl rfl)
theorem dX2_holder_56 : decode cX2_holder 56 = .ok (.areturn, 1) := dk_176 (dk_at dksX2_holder_2 9 rfl rfl)
abbrev cX2_setOf : ByteArray := prog_9_method_4_code
def yX2_setOf : MethodName := ⟨RX2, "setOf", "(I)I"⟩
def dkwX2_setOf_0 : List UInt8 := [27, 42, 180, 0, 25, 185, 0, 136, 1, 0, 112, 172]
abbrev dktX2_setOf_0 : List UInt8 := dkwX2_setOf_0 ++ []
theorem dksX2_setOf_0 : cX2_setOf.data.toList.drop 0 = dktX2_setOf_0 := by decide +kernel
theorem dX2_setOf_0 : decode cX2_setOf 0 = .ok (.iload_n 1, 1) := dk_27 (dk_at dksX2_setOf_0 0 rfl rfl)
theorem dX2_setOf_1 : decode cX2_setOf 1 = .ok (.aload_n 0, 1) := dk_42 (dk_at dksX2_setOf_0 1 rfl rfl)
theorem dX2_setOf_2 : decode cX2_setOf 2 = .ok (.getfield 25, 3) := dk_180 0 25 (dk_at dksX2_setOf_0 2 rfl rfl)
theorem dX2_setOf_5 : decode cX2_setOf 5 = .ok (.invokeinterface 136 1, 5) := by decide +kernel
theorem dX2_setOf_10 : decode cX2_setOf 10 = .ok (.irem, 1) := dk_112 (dk_at dksX2_setOf_0 10 rfl rfl)
theorem dX2_setOf_11 : decode cX2_setOf 11 = .ok (.ireturn, 1) := dk_172 (dk_at dksX2_setOf_0 11 rfl rfl)
abbrev cX2_isBalanced : ByteArray := prog_9_method_38_code
def yX2_isBalanced : MethodName := ⟨RX2, "isBalanced", "()Z"⟩
def dkwX2_isBalanced_5 : List UInt8 := [172]
abbrev dktX2_isBalanced_5 : List UInt8 := dkwX2_isBalanced_5 ++ []
def dkwX2_isBalanced_4 : List UInt8 := [153, 0, 7, 4, 167, 0, 4, 3, 126, 60, 28, 4, 25, 4, 180, 0, 148, 120, 128, 61, 167, 255, 186, 27]
abbrev dktX2_isBalanced_4 : List UInt8 := dkwX2_isBalanced_4 ++ dktX2_isBalanced_5
def dkwX2_isBalanced_3 : List UInt8 := [167, 255, 228, 27, 28, 25, 4, 180, 0, 148, 122, 4, 126, 154, 0, 16, 42, 25, 4, 182, 1, 65]
abbrev dktX2_isBalanced_3 : List UInt8 := dkwX2_isBalanced_3 ++ dktX2_isBalanced_4
def dkwX2_isBalanced_2 : List UInt8 := [153, 0, 67, 45, 185, 0, 74, 1, 0, 192, 0, 78, 58, 4, 25, 4, 182, 0, 171, 153, 0, 6]
abbrev dktX2_isBalanced_2 : List UInt8 := dkwX2_isBalanced_2 ++ dktX2_isBalanced_3
def dkwX2_isBalanced_1 : List UInt8 := [167, 0, 4, 3, 60, 3, 61, 42, 182, 0, 180, 185, 0, 62, 1, 0, 78, 45, 185, 0, 68, 1, 0]
abbrev dktX2_isBalanced_1 : List UInt8 := dkwX2_isBalanced_1 ++ dktX2_isBalanced_2
def dkwX2_isBalanced_0 : List UInt8 := [42, 180, 0, 108, 42, 180, 0, 111, 96, 42, 180, 0, 114, 42, 182, 1, 62, 96, 160, 0, 7, 4]
abbrev dktX2_isBalanced_0 : List UInt8 := dkwX2_isBalanced_0 ++ dktX2_isBalanced_1
theorem dksX2_isBalanced_0 : cX2_isBalanced.data.toList.drop 0 = dktX2_isBalanced_0 := by decide +kernel
theorem dksX2_isBalanced_1 : cX2_isBalanced.data.toList.drop 22 = dktX2_isBalanced_1 := dk_seg dksX2_isBalanced_0 22 rfl rfl
theorem dksX2_isBalanced_2 : cX2_isBalanced.data.toList.drop 45 = dktX2_isBalanced_2 := dk_seg dksX2_isBalanced_1 23 rfl rfl
theorem dksX2_isBalanced_3 : cX2_isBalanced.data.toList.drop 67 = dktX2_isBalanced_3 := dk_seg dksX2_isBalanced_2 22 rfl rfl
theorem dksX2_isBalanced_4 : cX2_isBalanced.data.toList.drop 89 = dktX2_isBalanced_4 := dk_seg dksX2_isBalanced_3 22 rfl rfl
theorem dksX2_isBalanced_5 : cX2_isBalanced.data.toList.drop 113 = dktX2_isBalanced_5 := dk_seg dksX2_isBalanced_4 24 rfl rfl
theorem dX2_isBalanced_0 : decode cX2_isBalanced 0 = .ok (.aload_n 0, 1) := dk_42 (dk_at dksX2_isBalanced_0 0 rfl rfl)
theorem dX2_isBalanced_1 : decode cX2_isBalanced 1 = .ok (.getfield 108, 3) := dk_180 0 108 (dk_at dksX2_isBalanced_0 1 rfl rfl)
theorem dX2_isBalanced_4 : decode cX2_isBalanced 4 = .ok (.aload_n 0, 1) := dk_42 (dk_at dksX2_isBalanced_0 4 rfl rfl)
theorem dX2_isBalanced_5 : decode cX2_isBalanced 5 = .ok (.getfield 111, 3) := dk_180 0 111 (dk_at dksX2_isBalanced_0 5 rfl rfl)
theorem dX2_isBalanced_8 : decode cX2_isBalanced 8 = .ok (.iadd, 1) := dk_96 (dk_at dksX2_isBalanced_0 8 rfl rfl)
theorem dX2_isBalanced_9 : decode cX2_isBalanced 9 = .ok (.aload_n 0, 1) := dk_42 (dk_at dksX2_isBalanced_0 9 rfl rfl)
theorem dX2_isBalanced_10 : decode cX2_isBalanced 10 = .ok (.getfield 114, 3) := dk_180 0 114 (dk_at dksX2_isBalanced_0 10 rfl rfl)
theorem dX2_isBalanced_13 : decode cX2_isBalanced 13 = .ok (.aload_n 0, 1) := dk_42 (dk_at dksX2_isBalanced_0 13 rfl rfl)
theorem dX2_isBalanced_14 : decode cX2_isBalanced 14 = .ok (.invokevirtual 318, 3) := dk_182 1 62 (dk_at dksX2_isBalanced_0 14 rfl rfl)
theorem dX2_isBalanced_17 : decode cX2_isBalanced 17 = .ok (.iadd, 1) := dk_96 (dk_at dksX2_isBalanced_0 17 rfl rfl)
theorem dX2_isBalanced_18 : decode cX2_isBalanced 18 = .ok (.if_icmp .ne 7, 3) := dk_160 0 7 (dk_at dksX2_isBalanced_0 18 rfl rfl)
theorem dX2_isBalanced_21 : decode cX2_isBalanced 21 = .ok (.iconst 1, 1) := dk_4 (dk_at dksX2_isBalanced_0 21 rfl rfl)
theorem dX2_isBalanced_22 : decode cX2_isBalanced 22 = .ok (.goto 4, 3) := dk_167 0 4 (dk_at dksX2_isBalanced_1 0 rfl rfl)
theorem dX2_isBalanced_25 : decode cX2_isBalanced 25 = .ok (.iconst 0, 1) := dk_3 (dk_at dksX2_isBalanced_1 3 rfl rfl)
theorem dX2_isBalanced_26 : decode cX2_isBalanced 26 = .ok (.istore_n 1, 1) := dk_60 (dk_at dksX2_isBalanced_1 4 rfl rfl)
theorem dX2_isBalanced_27 : decode cX2_isBalanced 27 = .ok (.iconst 0, 1) := dk_3 (dk_at dksX2_isBalanced_1 5 rfl rfl)
theorem dX2_isBalanced_28 : decode cX2_isBalanced 28 = .ok (.istore_n 2, 1) := dk_61 (dk_at dksX2_isBalanced_1 6 rfl rfl)
theorem dX2_isBalanced_29 : decode cX2_isBalanced 29 = .ok (.aload_n 0, 1) := dk_42 (dk_at dksX2_isBalanced_1 7 rfl rfl)
theorem dX2_isBalanced_30 : decode cX2_isBalanced 30 = .ok (.invokevirtual 180, 3) := dk_182 0 180 (dk_at dksX2_isBalanced_1 8 rfl rfl)
theorem dX2_isBalanced_33 : decode cX2_isBalanced 33 = .ok (.invokeinterface 62 1, 5) := by decide +kernel
theorem dX2_isBalanced_38 : decode cX2_isBalanced 38 = .ok (.astore_n 3, 1) := dk_78 (dk_at dksX2_isBalanced_1 16 rfl rfl)
theorem dX2_isBalanced_39 : decode cX2_isBalanced 39 = .ok (.aload_n 3, 1) := dk_45 (dk_at dksX2_isBalanced_1 17 rfl rfl)
theorem dX2_isBalanced_40 : decode cX2_isBalanced 40 = .ok (.invokeinterface 68 1, 5) := by decide +kernel
theorem dX2_isBalanced_45 : decode cX2_isBalanced 45 = .ok (.ifCond .eq 67, 3) := dk_153 0 67 (dk_at dksX2_isBalanced_2 0 rfl rfl)
theorem dX2_isBalanced_48 : decode cX2_isBalanced 48 = .ok (.aload_n 3, 1) := dk_45 (dk_at dksX2_isBalanced_2 3 rfl rfl)
theorem dX2_isBalanced_49 : decode cX2_isBalanced 49 = .ok (.invokeinterface 74 1, 5) := by decide +kernel
theorem dX2_isBalanced_54 : decode cX2_isBalanced 54 = .ok (.checkcast 78, 3) := dk_192 0 78 (dk_at dksX2_isBalanced_2 9 rfl rfl)
theorem dX2_isBalanced_57 : decode cX2_isBalanced 57 = .ok (.astore 4, 2) := dk_58 4 (dk_at dksX2_isBalanced_2 12 rfl rfl)
theorem dX2_isBalanced_59 : decode cX2_isBalanced 59 = .ok (.aload 4, 2) := dk_25 4 (dk_at dksX2_isBalanced_2 14 rfl rfl)
theorem dX2_isBalanced_61 : decode cX2_isBalanced 61 = .ok (.invokevirtual 171, 3) := dk_182 0 171 (dk_at dksX2_isBalanced_2 16 rfl rfl)
theorem dX2_isBalanced_64 : decode cX2_isBalanced 64 = .ok (.ifCond .eq 6, 3) := dk_153 0 6 (dk_at dksX2_isBalanced_2 19 rfl rfl)
theorem dX2_isBalanced_67 : decode cX2_isBalanced 67 = .ok (.goto (-28), 3) := dk_167 255 228 (dk_at dksX2_isBalanced_3 0 rfl rfl)
theorem dX2_isBalanced_70 : decode cX2_isBalanced 70 = .ok (.iload_n 1, 1) := dk_27 (dk_at dksX2_isBalanced_3 3 rfl rfl)
theorem dX2_isBalanced_71 : decode cX2_isBalanced 71 = .ok (.iload_n 2, 1) := dk_28 (dk_at dksX2_isBalanced_3 4 rfl rfl)
theorem dX2_isBalanced_72 : decode cX2_isBalanced 72 = .ok (.aload 4, 2) := dk_25 4 (dk_at dksX2_isBalanced_3 5 rfl rfl)
theorem dX2_isBalanced_74 : decode cX2_isBalanced 74 = .ok (.getfield 148, 3) := dk_180 0 148 (dk_at dksX2_isBalanced_3 7 rfl rfl)
theorem dX2_isBalanced_77 : decode cX2_isBalanced 77 = .ok (.ishr, 1) := dk_122 (dk_at dksX2_isBalanced_3 10 rfl rfl)
theorem dX2_isBalanced_78 : decode cX2_isBalanced 78 = .ok (.iconst 1, 1) := dk_4 (dk_at dksX2_isBalanced_3 11 rfl rfl)
theorem dX2_isBalanced_79 : decode cX2_isBalanced 79 = .ok (.iand, 1) := dk_126 (dk_at dksX2_isBalanced_3 12 rfl rfl)
theorem dX2_isBalanced_80 : decode cX2_isBalanced 80 = .ok (.ifCond .ne 16, 3) := dk_154 0 16 (dk_at dksX2_isBalanced_3 13 rfl rfl)
theorem dX2_isBalanced_83 : decode cX2_isBalanced 83 = .ok (.aload_n 0, 1) := dk_42 (dk_at dksX2_isBalanced_3 16 rfl rfl)
theorem dX2_isBalanced_84 : decode cX2_isBalanced 84 = .ok (.aload 4, 2) := dk_25 4 (dk_at dksX2_isBalanced_3 17 rfl rfl)
theorem dX2_isBalanced_86 : decode cX2_isBalanced 86 = .ok (.invokevirtual 321, 3) := dk_182 1 65 (dk_at dksX2_isBalanced_3 19 rfl rfl)
theorem dX2_isBalanced_89 : decode cX2_isBalanced 89 = .ok (.ifCond .eq 7, 3) := dk_153 0 7 (dk_at dksX2_isBalanced_4 0 rfl rfl)
theorem dX2_isBalanced_92 : decode cX2_isBalanced 92 = .ok (.iconst 1, 1) := dk_4 (dk_at dksX2_isBalanced_4 3 rfl rfl)
theorem dX2_isBalanced_93 : decode cX2_isBalanced 93 = .ok (.goto 4, 3) := dk_167 0 4 (dk_at dksX2_isBalanced_4 4 rfl rfl)
theorem dX2_isBalanced_96 : decode cX2_isBalanced 96 = .ok (.iconst 0, 1) := dk_3 (dk_at dksX2_isBalanced_4 7 rfl rfl)
theorem dX2_isBalanced_97 : decode cX2_isBalanced 97 = .ok (.iand, 1) := dk_126 (dk_at dksX2_isBalanced_4 8 rfl rfl)
theorem dX2_isBalanced_98 : decode cX2_isBalanced 98 = .ok (.istore_n 1, 1) := dk_60 (dk_at dksX2_isBalanced_4 9 rfl rfl)
theorem dX2_isBalanced_99 : decode cX2_isBalanced 99 = .ok (.iload_n 2, 1) := dk_28 (dk_at dksX2_isBalanced_4 10 rfl rfl)
theorem dX2_isBalanced_100 : decode cX2_isBalanced 100 = .ok (.iconst 1, 1) := dk_4 (dk_at dksX2_isBalanced_4 11 rfl rfl)
theorem dX2_isBalanced_101 : decode cX2_isBalanced 101 = .ok (.aload 4, 2) := dk_25 4 (dk_at dksX2_isBalanced_4 12 rfl rfl)
theorem dX2_isBalanced_103 : decode cX2_isBalanced 103 = .ok (.getfield 148, 3) := dk_180 0 148 (dk_at dksX2_isBalanced_4 14 rfl rfl)
theorem dX2_isBalanced_106 : decode cX2_isBalanced 106 = .ok (.ishl, 1) := dk_120 (dk_at dksX2_isBalanced_4 17 rfl rfl)
theorem dX2_isBalanced_107 : decode cX2_isBalanced 107 = .ok (.ior, 1) := dk_128 (dk_at dksX2_isBalanced_4 18 rfl rfl)
theorem dX2_isBalanced_108 : decode cX2_isBalanced 108 = .ok (.istore_n 2, 1) := dk_61 (dk_at dksX2_isBalanced_4 19 rfl rfl)
theorem dX2_isBalanced_109 : decode cX2_isBalanced 109 = .ok (.goto (-70), 3) := dk_167 255 186 (dk_at dksX2_isBalanced_4 20 rfl rfl)
theorem dX2_isBalanced_112 : decode cX2_isBalanced 112 = .ok (.iload_n 1, 1) := dk_27 (dk_at dksX2_isBalanced_4 23 rfl rfl)
theorem dX2_isBalanced_113 : decode cX2_isBalanced 113 = .ok (.ireturn, 1) := dk_172 (dk_at dksX2_isBalanced_5 0 rfl rfl)
abbrev cX2_sumOfMisses : ByteArray := prog_9_method_36_code
def yX2_sumOfMisses : MethodName := ⟨RX2, "sumOfMisses", "()I"⟩
def dkwX2_sumOfMisses_1 : List UInt8 := [54, 5, 27, 21, 5, 96, 60, 132, 4, 1, 167, 255, 236, 27, 172]
abbrev dktX2_sumOfMisses_1 : List UInt8 := dkwX2_sumOfMisses_1 ++ []
def dkwX2_sumOfMisses_0 : List UInt8 := [3, 60, 42, 180, 0, 45, 77, 44, 190, 62, 3, 54, 4, 21, 4, 29, 162, 0, 20, 44, 21, 4, 46]
abbrev dktX2_sumOfMisses_0 : List UInt8 := dkwX2_sumOfMisses_0 ++ dktX2_sumOfMisses_1
theorem dksX2_sumOfMisses_0 : cX2_sumOfMisses.data.toList.drop 0 = dktX2_sumOfMisses_0 := by decide +kernel
theorem dksX2_sumOfMisses_1 : cX2_sumOfMisses.data.toList.drop 23 = dktX2_sumOfMisses_1 := dk_seg dksX2_sumOfMisses_0 23 rfl rfl
theorem dX2_sumOfMisses_0 : decode cX2_sumOfMisses 0 = .ok (.iconst 0, 1) := dk_3 (dk_at dksX2_sumOfMisses_0 0 rfl rfl)
theorem dX2_sumOfMisses_1 : decode cX2_sumOfMisses 1 = .ok (.istore_n 1, 1) := dk_60 (dk_at dksX2_sumOfMisses_0 1 rfl rfl)
theorem dX2_sumOfMisses_2 : decode cX2_sumOfMisses 2 = .ok (.aload_n 0, 1) := dk_42 (dk_at dksX2_sumOfMisses_0 2 rfl rfl)
theorem dX2_sumOfMisses_3 : decode cX2_sumOfMisses 3 = .ok (.getfield 45, 3) := dk_180 0 45 (dk_at dksX2_sumOfMisses_0 3 rfl rfl)
theorem dX2_sumOfMisses_6 : decode cX2_sumOfMisses 6 = .ok (.astore_n 2, 1) := dk_77 (dk_at dksX2_sumOfMisses_0 6 rfl rfl)
theorem dX2_sumOfMisses_7 : decode cX2_sumOfMisses 7 = .ok (.aload_n 2, 1) := dk_44 (dk_at dksX2_sumOfMisses_0 7 rfl rfl)
theorem dX2_sumOfMisses_8 : decode cX2_sumOfMisses 8 = .ok (.arraylength, 1) := dk_190 (dk_at dksX2_sumOfMisses_0 8 rfl rfl)
theorem dX2_sumOfMisses_9 : decode cX2_sumOfMisses 9 = .ok (.istore_n 3, 1) := dk_62 (dk_at dksX2_sumOfMisses_0 9 rfl rfl)
theorem dX2_sumOfMisses_10 : decode cX2_sumOfMisses 10 = .ok (.iconst 0, 1) := dk_3 (dk_at dksX2_sumOfMisses_0 10 rfl rfl)
theorem dX2_sumOfMisses_11 : decode cX2_sumOfMisses 11 = .ok (.istore 4, 2) := dk_54 4 (dk_at dksX2_sumOfMisses_0 11 rfl rfl)
theorem dX2_sumOfMisses_13 : decode cX2_sumOfMisses 13 = .ok (.iload 4, 2) := dk_21 4 (dk_at dksX2_sumOfMisses_0 13 rfl rfl)
theorem dX2_sumOfMisses_15 : decode cX2_sumOfMisses 15 = .ok (.iload_n 3, 1) := dk_29 (dk_at dksX2_sumOfMisses_0 15 rfl rfl)
theorem dX2_sumOfMisses_16 : decode cX2_sumOfMisses 16 = .ok (.if_icmp .ge 20, 3) := dk_162 0 20 (dk_at dksX2_sumOfMisses_0 16 rfl rfl)
theorem dX2_sumOfMisses_19 : decode cX2_sumOfMisses 19 = .ok (.aload_n 2, 1) := dk_44 (dk_at dksX2_sumOfMisses_0 19 rfl rfl)
theorem dX2_sumOfMisses_20 : decode cX2_sumOfMisses 20 = .ok (.iload 4, 2) := dk_21 4 (dk_at dksX2_sumOfMisses_0 20 rfl rfl)
theorem dX2_sumOfMisses_22 : decode cX2_sumOfMisses 22 = .ok (.iaload, 1) := dk_46 (dk_at dksX2_sumOfMisses_0 22 rfl rfl)
theorem dX2_sumOfMisses_23 : decode cX2_sumOfMisses 23 = .ok (.istore 5, 2) := dk_54 5 (dk_at dksX2_sumOfMisses_1 0 rfl rfl)
theorem dX2_sumOfMisses_25 : decode cX2_sumOfMisses 25 = .ok (.iload_n 1, 1) := dk_27 (dk_at dksX2_sumOfMisses_1 2 rfl rfl)
theorem dX2_sumOfMisses_26 : decode cX2_sumOfMisses 26 = .ok (.iload 5, 2) := dk_21 5 (dk_at dksX2_sumOfMisses_1 3 rfl rfl)
theorem dX2_sumOfMisses_28 : decode cX2_sumOfMisses 28 = .ok (.iadd, 1) := dk_96 (dk_at dksX2_sumOfMisses_1 5 rfl rfl)
theorem dX2_sumOfMisses_29 : decode cX2_sumOfMisses 29 = .ok (.istore_n 1, 1) := dk_60 (dk_at dksX2_sumOfMisses_1 6 rfl rfl)
theorem dX2_sumOfMisses_30 : decode cX2_sumOfMisses 30 = .ok (.iinc 4 1, 3) := dk_132 4 1 (dk_at dksX2_sumOfMisses_1 7 rfl rfl)
theorem dX2_sumOfMisses_33 : decode cX2_sumOfMisses 33 = .ok (.goto (-20), 3) := dk_167 255 236 (dk_at dksX2_sumOfMisses_1 10 rfl rfl)
theorem dX2_sumOfMisses_36 : decode cX2_sumOfMisses 36 = .ok (.iload_n 1, 1) := dk_27 (dk_at dksX2_sumOfMisses_1 13 rfl rfl)
theorem dX2_sumOfMisses_37 : decode cX2_sumOfMisses 37 = .ok (.ireturn, 1) := dk_172 (dk_at dksX2_sumOfMisses_1 14 rfl rfl)
abbrev cX2_isClean : ByteArray := prog_9_method_37_code
def yX2_isClean : MethodName := ⟨RX2, "isClean", "(LWordCache$Line;)Z"⟩
def dkwX2_isClean_2 : List UInt8 := [132, 3, 1, 167, 255, 210, 28, 172]
abbrev dktX2_isClean_2 : List UInt8 := dkwX2_isClean_2 ++ []
def dkwX2_isClean_1 : List UInt8 := [42, 180, 0, 9, 7, 43, 180, 0, 148, 104, 29, 96, 46, 160, 0, 7, 4, 167, 0, 4, 3, 126, 61]
abbrev dktX2_isClean_1 : List UInt8 := dkwX2_isClean_1 ++ dktX2_isClean_2
def dkwX2_isClean_0 : List UInt8 := [4, 61, 3, 62, 29, 7, 162, 0, 47, 28, 43, 29, 182, 0, 194, 154, 0, 25, 43, 180, 0, 191, 29, 46]
abbrev dktX2_isClean_0 : List UInt8 := dkwX2_isClean_0 ++ dktX2_isClean_1
theorem dksX2_isClean_0 : cX2_isClean.data.toList.drop 0 = dktX2_isClean_0 := by decide +kernel
theorem dksX2_isClean_1 : cX2_isClean.data.toList.drop 24 = dktX2_isClean_1 := dk_seg dksX2_isClean_0 24 rfl rfl
theorem dksX2_isClean_2 : cX2_isClean.data.toList.drop 47 = dktX2_isClean_2 := dk_seg dksX2_isClean_1 23 rfl rfl
theorem dX2_isClean_0 : decode cX2_isClean 0 = .ok (.iconst 1, 1) := dk_4 (dk_at dksX2_isClean_0 0 rfl rfl)
theorem dX2_isClean_1 : decode cX2_isClean 1 = .ok (.istore_n 2, 1) := dk_61 (dk_at dksX2_isClean_0 1 rfl rfl)
theorem dX2_isClean_2 : decode cX2_isClean 2 = .ok (.iconst 0, 1) := dk_3 (dk_at dksX2_isClean_0 2 rfl rfl)
theorem dX2_isClean_3 : decode cX2_isClean 3 = .ok (.istore_n 3, 1) := dk_62 (dk_at dksX2_isClean_0 3 rfl rfl)
theorem dX2_isClean_4 : decode cX2_isClean 4 = .ok (.iload_n 3, 1) := dk_29 (dk_at dksX2_isClean_0 4 rfl rfl)
theorem dX2_isClean_5 : decode cX2_isClean 5 = .ok (.iconst 4, 1) := dk_7 (dk_at dksX2_isClean_0 5 rfl rfl)
theorem dX2_isClean_6 : decode cX2_isClean 6 = .ok (.if_icmp .ge 47, 3) := dk_162 0 47 (dk_at dksX2_isClean_0 6 rfl rfl)
theorem dX2_isClean_9 : decode cX2_isClean 9 = .ok (.iload_n 2, 1) := dk_28 (dk_at dksX2_isClean_0 9 rfl rfl)
theorem dX2_isClean_10 : decode cX2_isClean 10 = .ok (.aload_n 1, 1) := dk_43 (dk_at dksX2_isClean_0 10 rfl rfl)
theorem dX2_isClean_11 : decode cX2_isClean 11 = .ok (.iload_n 3, 1) := dk_29 (dk_at dksX2_isClean_0 11 rfl rfl)
theorem dX2_isClean_12 : decode cX2_isClean 12 = .ok (.invokevirtual 194, 3) := dk_182 0 194 (dk_at dksX2_isClean_0 12 rfl rfl)
theorem dX2_isClean_15 : decode cX2_isClean 15 = .ok (.ifCond .ne 25, 3) := dk_154 0 25 (dk_at dksX2_isClean_0 15 rfl rfl)
theorem dX2_isClean_18 : decode cX2_isClean 18 = .ok (.aload_n 1, 1) := dk_43 (dk_at dksX2_isClean_0 18 rfl rfl)
theorem dX2_isClean_19 : decode cX2_isClean 19 = .ok (.getfield 191, 3) := dk_180 0 191 (dk_at dksX2_isClean_0 19 rfl rfl)
theorem dX2_isClean_22 : decode cX2_isClean 22 = .ok (.iload_n 3, 1) := dk_29 (dk_at dksX2_isClean_0 22 rfl rfl)
theorem dX2_isClean_23 : decode cX2_isClean 23 = .ok (.iaload, 1) := dk_46 (dk_at dksX2_isClean_0 23 rfl rfl)
theorem dX2_isClean_24 : decode cX2_isClean 24 = .ok (.aload_n 0, 1) := dk_42 (dk_at dksX2_isClean_1 0 rfl rfl)
theorem dX2_isClean_25 : decode cX2_isClean 25 = .ok (.getfield 9, 3) := dk_180 0 9 (dk_at dksX2_isClean_1 1 rfl rfl)
theorem dX2_isClean_28 : decode cX2_isClean 28 = .ok (.iconst 4, 1) := dk_7 (dk_at dksX2_isClean_1 4 rfl rfl)
theorem dX2_isClean_29 : decode cX2_isClean 29 = .ok (.aload_n 1, 1) := dk_43 (dk_at dksX2_isClean_1 5 rfl rfl)
theorem dX2_isClean_30 : decode cX2_isClean 30 = .ok (.getfield 148, 3) := dk_180 0 148 (dk_at dksX2_isClean_1 6 rfl rfl)
theorem dX2_isClean_33 : decode cX2_isClean 33 = .ok (.imul, 1) := dk_104 (dk_at dksX2_isClean_1 9 rfl rfl)
theorem dX2_isClean_34 : decode cX2_isClean 34 = .ok (.iload_n 3, 1) := dk_29 (dk_at dksX2_isClean_1 10 rfl rfl)
theorem dX2_isClean_35 : decode cX2_isClean 35 = .ok (.iadd, 1) := dk_96 (dk_at dksX2_isClean_1 11 rfl rfl)
theorem dX2_isClean_36 : decode cX2_isClean 36 = .ok (.iaload, 1) := dk_46 (dk_at dksX2_isClean_1 12 rfl rfl)
theorem dX2_isClean_37 : decode cX2_isClean 37 = .ok (.if_icmp .ne 7, 3) := dk_160 0 7 (dk_at dksX2_isClean_1 13 rfl rfl)
theorem dX2_isClean_40 : decode cX2_isClean 40 = .ok (.iconst 1, 1) := dk_4 (dk_at dksX2_isClean_1 16 rfl rfl)
theorem dX2_isClean_41 : decode cX2_isClean 41 = .ok (.goto 4, 3) := dk_167 0 4 (dk_at dksX2_isClean_1 17 rfl rfl)
theorem dX2_isClean_44 : decode cX2_isClean 44 = .ok (.iconst 0, 1) := dk_3 (dk_at dksX2_isClean_1 20 rfl rfl)
theorem dX2_isClean_45 : decode cX2_isClean 45 = .ok (.iand, 1) := dk_126 (dk_at dksX2_isClean_1 21 rfl rfl)
theorem dX2_isClean_46 : decode cX2_isClean 46 = .ok (.istore_n 2, 1) := dk_61 (dk_at dksX2_isClean_1 22 rfl rfl)
theorem dX2_isClean_47 : decode cX2_isClean 47 = .ok (.iinc 3 1, 3) := dk_132 3 1 (dk_at dksX2_isClean_2 0 rfl rfl)
theorem dX2_isClean_50 : decode cX2_isClean 50 = .ok (.goto (-46), 3) := dk_167 255 210 (dk_at dksX2_isClean_2 3 rfl rfl)
theorem dX2_isClean_53 : decode cX2_isClean 53 = .ok (.iload_n 2, 1) := dk_28 (dk_at dksX2_isClean_2 6 rfl rfl)
theorem dX2_isClean_54 : decode cX2_isClean 54 = .ok (.ireturn, 1) := dk_172 (dk_at dksX2_isClean_2 7 rfl rfl)
abbrev cX2_readsWord : ByteArray := prog_9_method_22_code
def yX2_readsWord : MethodName := ⟨RX2, "readsWord", "(I)I"⟩
def dkwX2_readsWord_1 : List UInt8 := [180, 0, 191, 27, 7, 112, 46, 172]
abbrev dktX2_readsWord_1 : List UInt8 := dkwX2_readsWord_1 ++ []
def dkwX2_readsWord_0 : List UInt8 := [27, 184, 1, 6, 42, 27, 7, 108, 182, 1, 9, 77, 42, 89, 180, 0, 108, 4, 96, 181, 0, 108, 44]
abbrev dktX2_readsWord_0 : List UInt8 := dkwX2_readsWord_0 ++ dktX2_readsWord_1
theorem dksX2_readsWord_0 : cX2_readsWord.data.toList.drop 0 = dktX2_readsWord_0 := by decide +kernel
theorem dksX2_readsWord_1 : cX2_readsWord.data.toList.drop 23 = dktX2_readsWord_1 := dk_seg dksX2_readsWord_0 23 rfl rfl
theorem dX2_readsWord_0 : decode cX2_readsWord 0 = .ok (.iload_n 1, 1) := dk_27 (dk_at dksX2_readsWord_0 0 rfl rfl)
theorem dX2_readsWord_1 : decode cX2_readsWord 1 = .ok (.invokestatic 262, 3) := dk_184 1 6 (dk_at dksX2_readsWord_0 1 rfl rfl)
theorem dX2_readsWord_4 : decode cX2_readsWord 4 = .ok (.aload_n 0, 1) := dk_42 (dk_at dksX2_readsWord_0 4 rfl rfl)
theorem dX2_readsWord_5 : decode cX2_readsWord 5 = .ok (.iload_n 1, 1) := dk_27 (dk_at dksX2_readsWord_0 5 rfl rfl)
theorem dX2_readsWord_6 : decode cX2_readsWord 6 = .ok (.iconst 4, 1) := dk_7 (dk_at dksX2_readsWord_0 6 rfl rfl)
theorem dX2_readsWord_7 : decode cX2_readsWord 7 = .ok (.idiv, 1) := dk_108 (dk_at dksX2_readsWord_0 7 rfl rfl)
theorem dX2_readsWord_8 : decode cX2_readsWord 8 = .ok (.invokevirtual 265, 3) := dk_182 1 9 (dk_at dksX2_readsWord_0 8 rfl rfl)
theorem dX2_readsWord_11 : decode cX2_readsWord 11 = .ok (.astore_n 2, 1) := dk_77 (dk_at dksX2_readsWord_0 11 rfl rfl)
theorem dX2_readsWord_12 : decode cX2_readsWord 12 = .ok (.aload_n 0, 1) := dk_42 (dk_at dksX2_readsWord_0 12 rfl rfl)
theorem dX2_readsWord_13 : decode cX2_readsWord 13 = .ok (.dup, 1) := dk_89 (dk_at dksX2_readsWord_0 13 rfl rfl)
theorem dX2_readsWord_14 : decode cX2_readsWord 14 = .ok (.getfield 108, 3) := dk_180 0 108 (dk_at dksX2_readsWord_0 14 rfl rfl)
theorem dX2_readsWord_17 : decode cX2_readsWord 17 = .ok (.iconst 1, 1) := dk_4 (dk_at dksX2_readsWord_0 17 rfl rfl)
theorem dX2_readsWord_18 : decode cX2_readsWord 18 = .ok (.iadd, 1) := dk_96 (dk_at dksX2_readsWord_0 18 rfl rfl)
theorem dX2_readsWord_19 : decode cX2_readsWord 19 = .ok (.putfield 108, 3) := dk_181 0 108 (dk_at dksX2_readsWord_0 19 rfl rfl)
theorem dX2_readsWord_22 : decode cX2_readsWord 22 = .ok (.aload_n 2, 1) := dk_44 (dk_at dksX2_readsWord_0 22 rfl rfl)
theorem dX2_readsWord_23 : decode cX2_readsWord 23 = .ok (.getfield 191, 3) := dk_180 0 191 (dk_at dksX2_readsWord_1 0 rfl rfl)
theorem dX2_readsWord_26 : decode cX2_readsWord 26 = .ok (.iload_n 1, 1) := dk_27 (dk_at dksX2_readsWord_1 3 rfl rfl)
theorem dX2_readsWord_27 : decode cX2_readsWord 27 = .ok (.iconst 4, 1) := dk_7 (dk_at dksX2_readsWord_1 4 rfl rfl)
theorem dX2_readsWord_28 : decode cX2_readsWord 28 = .ok (.irem, 1) := dk_112 (dk_at dksX2_readsWord_1 5 rfl rfl)
theorem dX2_readsWord_29 : decode cX2_readsWord 29 = .ok (.iaload, 1) := dk_46 (dk_at dksX2_readsWord_1 6 rfl rfl)
theorem dX2_readsWord_30 : decode cX2_readsWord 30 = .ok (.ireturn, 1) := dk_172 (dk_at dksX2_readsWord_1 7 rfl rfl)
abbrev cX2_accesses : ByteArray := prog_9_method_21_code
def yX2_accesses : MethodName := ⟨RX2, "accesses", "(I)LWordCache$Line;"⟩
def dkwX2_accesses_3 : List UInt8 := [27, 182, 1, 0, 45, 28, 182, 1, 3, 45, 176]
abbrev dktX2_accesses_3 : List UInt8 := dkwX2_accesses_3 ++ []
def dkwX2_accesses_2 : List UInt8 := [167, 0, 23, 42, 89, 180, 0, 114, 4, 96, 181, 0, 114, 42, 89, 180, 0, 98, 4, 96, 181, 0, 98, 42]
abbrev dktX2_accesses_2 : List UInt8 := dkwX2_accesses_2 ++ dktX2_accesses_3
def dkwX2_accesses_1 : List UInt8 := [198, 0, 7, 4, 167, 0, 4, 3, 5, 42, 27, 182, 0, 140, 184, 0, 248, 42, 27, 45, 28, 182, 0, 252]
abbrev dktX2_accesses_1 : List UInt8 := dkwX2_accesses_1 ++ dktX2_accesses_2
def dkwX2_accesses_0 : List UInt8 := [42, 180, 0, 98, 61, 42, 27, 182, 0, 187, 78, 45, 199, 0, 37, 42, 27, 182, 0, 245, 78, 45]
abbrev dktX2_accesses_0 : List UInt8 := dkwX2_accesses_0 ++ dktX2_accesses_1
theorem dksX2_accesses_0 : cX2_accesses.data.toList.drop 0 = dktX2_accesses_0 := by decide +kernel
theorem dksX2_accesses_1 : cX2_accesses.data.toList.drop 22 = dktX2_accesses_1 := dk_seg dksX2_accesses_0 22 rfl rfl
theorem dksX2_accesses_2 : cX2_accesses.data.toList.drop 46 = dktX2_accesses_2 := dk_seg dksX2_accesses_1 24 rfl rfl
theorem dksX2_accesses_3 : cX2_accesses.data.toList.drop 70 = dktX2_accesses_3 := dk_seg dksX2_accesses_2 24 rfl rfl
theorem dX2_accesses_0 : decode cX2_accesses 0 = .ok (.aload_n 0, 1) := dk_42 (dk_at dksX2_accesses_0 0 rfl rfl)
theorem dX2_accesses_1 : decode cX2_accesses 1 = .ok (.getfield 98, 3) := dk_180 0 98 (dk_at dksX2_accesses_0 1 rfl rfl)
theorem dX2_accesses_4 : decode cX2_accesses 4 = .ok (.istore_n 2, 1) := dk_61 (dk_at dksX2_accesses_0 4 rfl rfl)
theorem dX2_accesses_5 : decode cX2_accesses 5 = .ok (.aload_n 0, 1) := dk_42 (dk_at dksX2_accesses_0 5 rfl rfl)
theorem dX2_accesses_6 : decode cX2_accesses 6 = .ok (.iload_n 1, 1) := dk_27 (dk_at dksX2_accesses_0 6 rfl rfl)
theorem dX2_accesses_7 : decode cX2_accesses 7 = .ok (.invokevirtual 187, 3) := dk_182 0 187 (dk_at dksX2_accesses_0 7 rfl rfl)
theorem dX2_accesses_10 : decode cX2_accesses 10 = .ok (.astore_n 3, 1) := dk_78 (dk_at dksX2_accesses_0 10 rfl rfl)
theorem dX2_accesses_11 : decode cX2_accesses 11 = .ok (.aload_n 3, 1) := dk_45 (dk_at dksX2_accesses_0 11 rfl rfl)
theorem dX2_accesses_12 : decode cX2_accesses 12 = .ok (.ifnonnull 37, 3) := dk_199 0 37 (dk_at dksX2_accesses_0 12 rfl rfl)
theorem dX2_accesses_15 : decode cX2_accesses 15 = .ok (.aload_n 0, 1) := dk_42 (dk_at dksX2_accesses_0 15 rfl rfl)
theorem dX2_accesses_16 : decode cX2_accesses 16 = .ok (.iload_n 1, 1) := dk_27 (dk_at dksX2_accesses_0 16 rfl rfl)
theorem dX2_accesses_17 : decode cX2_accesses 17 = .ok (.invokevirtual 245, 3) := dk_182 0 245 (dk_at dksX2_accesses_0 17 rfl rfl)
theorem dX2_accesses_20 : decode cX2_accesses 20 = .ok (.astore_n 3, 1) := dk_78 (dk_at dksX2_accesses_0 20 rfl rfl)
theorem dX2_accesses_21 : decode cX2_accesses 21 = .ok (.aload_n 3, 1) := dk_45 (dk_at dksX2_accesses_0 21 rfl rfl)
theorem dX2_accesses_22 : decode cX2_accesses 22 = .ok (.ifnull 7, 3) := dk_198 0 7 (dk_at dksX2_accesses_1 0 rfl rfl)
theorem dX2_accesses_25 : decode cX2_accesses 25 = .ok (.iconst 1, 1) := dk_4 (dk_at dksX2_accesses_1 3 rfl rfl)
theorem dX2_accesses_26 : decode cX2_accesses 26 = .ok (.goto 4, 3) := dk_167 0 4 (dk_at dksX2_accesses_1 4 rfl rfl)
theorem dX2_accesses_29 : decode cX2_accesses 29 = .ok (.iconst 0, 1) := dk_3 (dk_at dksX2_accesses_1 7 rfl rfl)
theorem dX2_accesses_30 : decode cX2_accesses 30 = .ok (.iconst 2, 1) := dk_5 (dk_at dksX2_accesses_1 8 rfl rfl)
theorem dX2_accesses_31 : decode cX2_accesses 31 = .ok (.aload_n 0, 1) := dk_42 (dk_at dksX2_accesses_1 9 rfl rfl)
theorem dX2_accesses_32 : decode cX2_accesses 32 = .ok (.iload_n 1, 1) := dk_27 (dk_at dksX2_accesses_1 10 rfl rfl)
theorem dX2_accesses_33 : decode cX2_accesses 33 = .ok (.invokevirtual 140, 3) := dk_182 0 140 (dk_at dksX2_accesses_1 11 rfl rfl)
theorem dX2_accesses_36 : decode cX2_accesses 36 = .ok (.invokestatic 248, 3) := dk_184 0 248 (dk_at dksX2_accesses_1 14 rfl rfl)
theorem dX2_accesses_39 : decode cX2_accesses 39 = .ok (.aload_n 0, 1) := dk_42 (dk_at dksX2_accesses_1 17 rfl rfl)
theorem dX2_accesses_40 : decode cX2_accesses 40 = .ok (.iload_n 1, 1) := dk_27 (dk_at dksX2_accesses_1 18 rfl rfl)
theorem dX2_accesses_41 : decode cX2_accesses 41 = .ok (.aload_n 3, 1) := dk_45 (dk_at dksX2_accesses_1 19 rfl rfl)
theorem dX2_accesses_42 : decode cX2_accesses 42 = .ok (.iload_n 2, 1) := dk_28 (dk_at dksX2_accesses_1 20 rfl rfl)
theorem dX2_accesses_43 : decode cX2_accesses 43 = .ok (.invokevirtual 252, 3) := dk_182 0 252 (dk_at dksX2_accesses_1 21 rfl rfl)
theorem dX2_accesses_46 : decode cX2_accesses 46 = .ok (.goto 23, 3) := dk_167 0 23 (dk_at dksX2_accesses_2 0 rfl rfl)
theorem dX2_accesses_49 : decode cX2_accesses 49 = .ok (.aload_n 0, 1) := dk_42 (dk_at dksX2_accesses_2 3 rfl rfl)
theorem dX2_accesses_50 : decode cX2_accesses 50 = .ok (.dup, 1) := dk_89 (dk_at dksX2_accesses_2 4 rfl rfl)
theorem dX2_accesses_51 : decode cX2_accesses 51 = .ok (.getfield 114, 3) := dk_180 0 114 (dk_at dksX2_accesses_2 5 rfl rfl)
theorem dX2_accesses_54 : decode cX2_accesses 54 = .ok (.iconst 1, 1) := dk_4 (dk_at dksX2_accesses_2 8 rfl rfl)
theorem dX2_accesses_55 : decode cX2_accesses 55 = .ok (.iadd, 1) := dk_96 (dk_at dksX2_accesses_2 9 rfl rfl)
theorem dX2_accesses_56 : decode cX2_accesses 56 = .ok (.putfield 114, 3) := dk_181 0 114 (dk_at dksX2_accesses_2 10 rfl rfl)
theorem dX2_accesses_59 : decode cX2_accesses 59 = .ok (.aload_n 0, 1) := dk_42 (dk_at dksX2_accesses_2 13 rfl rfl)
theorem dX2_accesses_60 : decode cX2_accesses 60 = .ok (.dup, 1) := dk_89 (dk_at dksX2_accesses_2 14 rfl rfl)
theorem dX2_accesses_61 : decode cX2_accesses 61 = .ok (.getfield 98, 3) := dk_180 0 98 (dk_at dksX2_accesses_2 15 rfl rfl)
theorem dX2_accesses_64 : decode cX2_accesses 64 = .ok (.iconst 1, 1) := dk_4 (dk_at dksX2_accesses_2 18 rfl rfl)
theorem dX2_accesses_65 : decode cX2_accesses 65 = .ok (.iadd, 1) := dk_96 (dk_at dksX2_accesses_2 19 rfl rfl)
theorem dX2_accesses_66 : decode cX2_accesses 66 = .ok (.putfield 98, 3) := dk_181 0 98 (dk_at dksX2_accesses_2 20 rfl rfl)
theorem dX2_accesses_69 : decode cX2_accesses 69 = .ok (.aload_n 0, 1) := dk_42 (dk_at dksX2_accesses_2 23 rfl rfl)
theorem dX2_accesses_70 : decode cX2_accesses 70 = .ok (.iload_n 1, 1) := dk_27 (dk_at dksX2_accesses_3 0 rfl rfl)
theorem dX2_accesses_71 : decode cX2_accesses 71 = .ok (.invokevirtual 256, 3) := dk_182 1 0 (dk_at dksX2_accesses_3 1 rfl rfl)
theorem dX2_accesses_74 : decode cX2_accesses 74 = .ok (.aload_n 3, 1) := dk_45 (dk_at dksX2_accesses_3 4 rfl rfl)
theorem dX2_accesses_75 : decode cX2_accesses 75 = .ok (.iload_n 2, 1) := dk_28 (dk_at dksX2_accesses_3 5 rfl rfl)
theorem dX2_accesses_76 : decode cX2_accesses 76 = .ok (.invokevirtual 259, 3) := dk_182 1 3 (dk_at dksX2_accesses_3 6 rfl rfl)
theorem dX2_accesses_79 : decode cX2_accesses 79 = .ok (.aload_n 3, 1) := dk_45 (dk_at dksX2_accesses_3 9 rfl rfl)
theorem dX2_accesses_80 : decode cX2_accesses 80 = .ok (.areturn, 1) := dk_176 (dk_at dksX2_accesses_3 10 rfl rfl)
abbrev cX2_comesTo : ByteArray := prog_9_method_8_code
def yX2_comesTo : MethodName := ⟨RX2, "comesTo", "(I)LWordCache$Line;"⟩
def dkwX2_comesTo_3 : List UInt8 := [153, 0, 7, 1, 167, 0, 13, 44, 3, 185, 0, 144, 2, 0, 192, 0, 78, 176]
abbrev dktX2_comesTo_3 : List UInt8 := dkwX2_comesTo_3 ++ []
def dkwX2_comesTo_2 : List UInt8 := [153, 0, 5, 45, 176, 167, 255, 228, 42, 42, 27, 182, 0, 140, 182, 0, 172, 77, 44, 185, 0, 176, 1, 0]
abbrev dktX2_comesTo_2 : List UInt8 := dkwX2_comesTo_2 ++ dktX2_comesTo_3
def dkwX2_comesTo_1 : List UInt8 := [185, 0, 68, 1, 0, 153, 0, 25, 44, 185, 0, 74, 1, 0, 192, 0, 78, 78, 45, 182, 0, 171]
abbrev dktX2_comesTo_1 : List UInt8 := dkwX2_comesTo_1 ++ dktX2_comesTo_2
def dkwX2_comesTo_0 : List UInt8 := [42, 180, 0, 25, 42, 27, 182, 0, 140, 185, 0, 144, 2, 0, 192, 0, 63, 185, 0, 62, 1, 0, 77, 44]
abbrev dktX2_comesTo_0 : List UInt8 := dkwX2_comesTo_0 ++ dktX2_comesTo_1
theorem dksX2_comesTo_0 : cX2_comesTo.data.toList.drop 0 = dktX2_comesTo_0 := by decide +kernel
theorem dksX2_comesTo_1 : cX2_comesTo.data.toList.drop 24 = dktX2_comesTo_1 := dk_seg dksX2_comesTo_0 24 rfl rfl
theorem dksX2_comesTo_2 : cX2_comesTo.data.toList.drop 46 = dktX2_comesTo_2 := dk_seg dksX2_comesTo_1 22 rfl rfl
theorem dksX2_comesTo_3 : cX2_comesTo.data.toList.drop 70 = dktX2_comesTo_3 := dk_seg dksX2_comesTo_2 24 rfl rfl
theorem dX2_comesTo_0 : decode cX2_comesTo 0 = .ok (.aload_n 0, 1) := dk_42 (dk_at dksX2_comesTo_0 0 rfl rfl)
theorem dX2_comesTo_1 : decode cX2_comesTo 1 = .ok (.getfield 25, 3) := dk_180 0 25 (dk_at dksX2_comesTo_0 1 rfl rfl)
theorem dX2_comesTo_4 : decode cX2_comesTo 4 = .ok (.aload_n 0, 1) := dk_42 (dk_at dksX2_comesTo_0 4 rfl rfl)
theorem dX2_comesTo_5 : decode cX2_comesTo 5 = .ok (.iload_n 1, 1) := dk_27 (dk_at dksX2_comesTo_0 5 rfl rfl)
theorem dX2_comesTo_6 : decode cX2_comesTo 6 = .ok (.invokevirtual 140, 3) := dk_182 0 140 (dk_at dksX2_comesTo_0 6 rfl rfl)
theorem dX2_comesTo_9 : decode cX2_comesTo 9 = .ok (.invokeinterface 144 2, 5) := by decide +kernel
theorem dX2_comesTo_14 : decode cX2_comesTo 14 = .ok (.checkcast 63, 3) := dk_192 0 63 (dk_at dksX2_comesTo_0 14 rfl rfl)
theorem dX2_comesTo_17 : decode cX2_comesTo 17 = .ok (.invokeinterface 62 1, 5) := by decide +kernel
theorem dX2_comesTo_22 : decode cX2_comesTo 22 = .ok (.astore_n 2, 1) := dk_77 (dk_at dksX2_comesTo_0 22 rfl rfl)
theorem dX2_comesTo_23 : decode cX2_comesTo 23 = .ok (.aload_n 2, 1) := dk_44 (dk_at dksX2_comesTo_0 23 rfl rfl)
theorem dX2_comesTo_24 : decode cX2_comesTo 24 = .ok (.invokeinterface 68 1, 5) := by decide +kernel
theorem dX2_comesTo_29 : decode cX2_comesTo 29 = .ok (.ifCond .eq 25, 3) := dk_153 0 25 (dk_at dksX2_comesTo_1 5 rfl rfl)
theorem dX2_comesTo_32 : decode cX2_comesTo 32 = .ok (.aload_n 2, 1) := dk_44 (dk_at dksX2_comesTo_1 8 rfl rfl)
theorem dX2_comesTo_33 : decode cX2_comesTo 33 = .ok (.invokeinterface 74 1, 5) := by decide +kernel
theorem dX2_comesTo_38 : decode cX2_comesTo 38 = .ok (.checkcast 78, 3) := dk_192 0 78 (dk_at dksX2_comesTo_1 14 rfl rfl)
theorem dX2_comesTo_41 : decode cX2_comesTo 41 = .ok (.astore_n 3, 1) := dk_78 (dk_at dksX2_comesTo_1 17 rfl rfl)
theorem dX2_comesTo_42 : decode cX2_comesTo 42 = .ok (.aload_n 3, 1) := dk_45 (dk_at dksX2_comesTo_1 18 rfl rfl)
theorem dX2_comesTo_43 : decode cX2_comesTo 43 = .ok (.invokevirtual 171, 3) := dk_182 0 171 (dk_at dksX2_comesTo_1 19 rfl rfl)
theorem dX2_comesTo_46 : decode cX2_comesTo 46 = .ok (.ifCond .eq 5, 3) := dk_153 0 5 (dk_at dksX2_comesTo_2 0 rfl rfl)
theorem dX2_comesTo_49 : decode cX2_comesTo 49 = .ok (.aload_n 3, 1) := dk_45 (dk_at dksX2_comesTo_2 3 rfl rfl)
theorem dX2_comesTo_50 : decode cX2_comesTo 50 = .ok (.areturn, 1) := dk_176 (dk_at dksX2_comesTo_2 4 rfl rfl)
theorem dX2_comesTo_51 : decode cX2_comesTo 51 = .ok (.goto (-28), 3) := dk_167 255 228 (dk_at dksX2_comesTo_2 5 rfl rfl)
theorem dX2_comesTo_54 : decode cX2_comesTo 54 = .ok (.aload_n 0, 1) := dk_42 (dk_at dksX2_comesTo_2 8 rfl rfl)
theorem dX2_comesTo_55 : decode cX2_comesTo 55 = .ok (.aload_n 0, 1) := dk_42 (dk_at dksX2_comesTo_2 9 rfl rfl)
theorem dX2_comesTo_56 : decode cX2_comesTo 56 = .ok (.iload_n 1, 1) := dk_27 (dk_at dksX2_comesTo_2 10 rfl rfl)
theorem dX2_comesTo_57 : decode cX2_comesTo 57 = .ok (.invokevirtual 140, 3) := dk_182 0 140 (dk_at dksX2_comesTo_2 11 rfl rfl)
theorem dX2_comesTo_60 : decode cX2_comesTo 60 = .ok (.invokevirtual 172, 3) := dk_182 0 172 (dk_at dksX2_comesTo_2 14 rfl rfl)
theorem dX2_comesTo_63 : decode cX2_comesTo 63 = .ok (.astore_n 2, 1) := dk_77 (dk_at dksX2_comesTo_2 17 rfl rfl)
theorem dX2_comesTo_64 : decode cX2_comesTo 64 = .ok (.aload_n 2, 1) := dk_44 (dk_at dksX2_comesTo_2 18 rfl rfl)
theorem dX2_comesTo_65 : decode cX2_comesTo 65 = .ok (.invokeinterface 176 1, 5) := by decide +kernel
theorem dX2_comesTo_70 : decode cX2_comesTo 70 = .ok (.ifCond .eq 7, 3) := dk_153 0 7 (dk_at dksX2_comesTo_3 0 rfl rfl)
theorem dX2_comesTo_73 : decode cX2_comesTo 73 = .ok (.aconst_null, 1) := dk_1 (dk_at dksX2_comesTo_3 3 rfl rfl)
theorem dX2_comesTo_74 : decode cX2_comesTo 74 = .ok (.goto 13, 3) := dk_167 0 13 (dk_at dksX2_comesTo_3 4 rfl rfl)
theorem dX2_comesTo_77 : decode cX2_comesTo 77 = .ok (.aload_n 2, 1) := dk_44 (dk_at dksX2_comesTo_3 7 rfl rfl)
theorem dX2_comesTo_78 : decode cX2_comesTo 78 = .ok (.iconst 0, 1) := dk_3 (dk_at dksX2_comesTo_3 8 rfl rfl)
theorem dX2_comesTo_79 : decode cX2_comesTo 79 = .ok (.invokeinterface 144 2, 5) := by decide +kernel
theorem dX2_comesTo_84 : decode cX2_comesTo 84 = .ok (.checkcast 78, 3) := dk_192 0 78 (dk_at dksX2_comesTo_3 14 rfl rfl)
theorem dX2_comesTo_87 : decode cX2_comesTo 87 = .ok (.areturn, 1) := dk_176 (dk_at dksX2_comesTo_3 17 rfl rfl)
abbrev cX2_giving : ByteArray := prog_9_method_7_code
def yX2_giving : MethodName := ⟨RX2, "giving", "(I)Ljava/util/List;"⟩
def dkwX2_giving_4 : List UInt8 := [192, 0, 78, 185, 0, 83, 2, 0, 87, 167, 255, 235, 45, 176]
abbrev dktX2_giving_4 : List UInt8 := dkwX2_giving_4 ++ []
def dkwX2_giving_3 : List UInt8 := [87, 167, 255, 221, 187, 0, 22, 89, 183, 0, 24, 78, 44, 182, 0, 165, 154, 0, 20, 45, 44, 182, 0, 168]
abbrev dktX2_giving_3 : List UInt8 := dkwX2_giving_3 ++ dktX2_giving_4
def dkwX2_giving_2 : List UInt8 := [185, 0, 74, 1, 0, 192, 0, 78, 58, 4, 25, 4, 182, 0, 161, 153, 0, 10, 44, 25, 4, 182, 0, 164]
abbrev dktX2_giving_2 : List UInt8 := dkwX2_giving_2 ++ dktX2_giving_3
def dkwX2_giving_1 : List UInt8 := [185, 0, 144, 2, 0, 192, 0, 63, 185, 0, 62, 1, 0, 78, 45, 185, 0, 68, 1, 0, 153, 0, 32, 45]
abbrev dktX2_giving_1 : List UInt8 := dkwX2_giving_1 ++ dktX2_giving_2
def dkwX2_giving_0 : List UInt8 := [187, 0, 152, 89, 42, 180, 0, 101, 184, 0, 154, 183, 0, 158, 77, 42, 180, 0, 25, 27]
abbrev dktX2_giving_0 : List UInt8 := dkwX2_giving_0 ++ dktX2_giving_1
theorem dksX2_giving_0 : cX2_giving.data.toList.drop 0 = dktX2_giving_0 := by decide +kernel
theorem dksX2_giving_1 : cX2_giving.data.toList.drop 20 = dktX2_giving_1 := dk_seg dksX2_giving_0 20 rfl rfl
theorem dksX2_giving_2 : cX2_giving.data.toList.drop 44 = dktX2_giving_2 := dk_seg dksX2_giving_1 24 rfl rfl
theorem dksX2_giving_3 : cX2_giving.data.toList.drop 68 = dktX2_giving_3 := dk_seg dksX2_giving_2 24 rfl rfl
theorem dksX2_giving_4 : cX2_giving.data.toList.drop 92 = dktX2_giving_4 := dk_seg dksX2_giving_3 24 rfl rfl
theorem dX2_giving_0 : decode cX2_giving 0 = .ok (.new 152, 3) := dk_187 0 152 (dk_at dksX2_giving_0 0 rfl rfl)
theorem dX2_giving_3 : decode cX2_giving 3 = .ok (.dup, 1) := dk_89 (dk_at dksX2_giving_0 3 rfl rfl)
theorem dX2_giving_4 : decode cX2_giving 4 = .ok (.aload_n 0, 1) := dk_42 (dk_at dksX2_giving_0 4 rfl rfl)
theorem dX2_giving_5 : decode cX2_giving 5 = .ok (.getfield 101, 3) := dk_180 0 101 (dk_at dksX2_giving_0 5 rfl rfl)
theorem dX2_giving_8 : decode cX2_giving 8 = .ok (.invokestatic 154, 3) := dk_184 0 154 (dk_at dksX2_giving_0 8 rfl rfl)
theorem dX2_giving_11 : decode cX2_giving 11 = .ok (.invokespecial 158, 3) := dk_183 0 158 (dk_at dksX2_giving_0 11 rfl rfl)
theorem dX2_giving_14 : decode cX2_giving 14 = .ok (.astore_n 2, 1) := dk_77 (dk_at dksX2_giving_0 14 rfl rfl)
theorem dX2_giving_15 : decode cX2_giving 15 = .ok (.aload_n 0, 1) := dk_42 (dk_at dksX2_giving_0 15 rfl rfl)
theorem dX2_giving_16 : decode cX2_giving 16 = .ok (.getfield 25, 3) := dk_180 0 25 (dk_at dksX2_giving_0 16 rfl rfl)
theorem dX2_giving_19 : decode cX2_giving 19 = .ok (.iload_n 1, 1) := dk_27 (dk_at dksX2_giving_0 19 rfl rfl)
theorem dX2_giving_20 : decode cX2_giving 20 = .ok (.invokeinterface 144 2, 5) := by decide +kernel
theorem dX2_giving_25 : decode cX2_giving 25 = .ok (.checkcast 63, 3) := dk_192 0 63 (dk_at dksX2_giving_1 5 rfl rfl)
theorem dX2_giving_28 : decode cX2_giving 28 = .ok (.invokeinterface 62 1, 5) := by decide +kernel
theorem dX2_giving_33 : decode cX2_giving 33 = .ok (.astore_n 3, 1) := dk_78 (dk_at dksX2_giving_1 13 rfl rfl)
theorem dX2_giving_34 : decode cX2_giving 34 = .ok (.aload_n 3, 1) := dk_45 (dk_at dksX2_giving_1 14 rfl rfl)
theorem dX2_giving_35 : decode cX2_giving 35 = .ok (.invokeinterface 68 1, 5) := by decide +kernel
theorem dX2_giving_40 : decode cX2_giving 40 = .ok (.ifCond .eq 32, 3) := dk_153 0 32 (dk_at dksX2_giving_1 20 rfl rfl)
theorem dX2_giving_43 : decode cX2_giving 43 = .ok (.aload_n 3, 1) := dk_45 (dk_at dksX2_giving_1 23 rfl rfl)
theorem dX2_giving_44 : decode cX2_giving 44 = .ok (.invokeinterface 74 1, 5) := by decide +kernel
theorem dX2_giving_49 : decode cX2_giving 49 = .ok (.checkcast 78, 3) := dk_192 0 78 (dk_at dksX2_giving_2 5 rfl rfl)
theorem dX2_giving_52 : decode cX2_giving 52 = .ok (.astore 4, 2) := dk_58 4 (dk_at dksX2_giving_2 8 rfl rfl)
theorem dX2_giving_54 : decode cX2_giving 54 = .ok (.aload 4, 2) := dk_25 4 (dk_at dksX2_giving_2 10 rfl rfl)
theorem dX2_giving_56 : decode cX2_giving 56 = .ok (.invokevirtual 161, 3) := dk_182 0 161 (dk_at dksX2_giving_2 12 rfl rfl)
theorem dX2_giving_59 : decode cX2_giving 59 = .ok (.ifCond .eq 10, 3) := dk_153 0 10 (dk_at dksX2_giving_2 15 rfl rfl)
theorem dX2_giving_62 : decode cX2_giving 62 = .ok (.aload_n 2, 1) := dk_44 (dk_at dksX2_giving_2 18 rfl rfl)
theorem dX2_giving_63 : decode cX2_giving 63 = .ok (.aload 4, 2) := dk_25 4 (dk_at dksX2_giving_2 19 rfl rfl)
theorem dX2_giving_65 : decode cX2_giving 65 = .ok (.invokevirtual 164, 3) := dk_182 0 164 (dk_at dksX2_giving_2 21 rfl rfl)
theorem dX2_giving_68 : decode cX2_giving 68 = .ok (.pop, 1) := dk_87 (dk_at dksX2_giving_3 0 rfl rfl)
theorem dX2_giving_69 : decode cX2_giving 69 = .ok (.goto (-35), 3) := dk_167 255 221 (dk_at dksX2_giving_3 1 rfl rfl)
theorem dX2_giving_72 : decode cX2_giving 72 = .ok (.new 22, 3) := dk_187 0 22 (dk_at dksX2_giving_3 4 rfl rfl)
theorem dX2_giving_75 : decode cX2_giving 75 = .ok (.dup, 1) := dk_89 (dk_at dksX2_giving_3 7 rfl rfl)
theorem dX2_giving_76 : decode cX2_giving 76 = .ok (.invokespecial 24, 3) := dk_183 0 24 (dk_at dksX2_giving_3 8 rfl rfl)
theorem dX2_giving_79 : decode cX2_giving 79 = .ok (.astore_n 3, 1) := dk_78 (dk_at dksX2_giving_3 11 rfl rfl)
theorem dX2_giving_80 : decode cX2_giving 80 = .ok (.aload_n 2, 1) := dk_44 (dk_at dksX2_giving_3 12 rfl rfl)
theorem dX2_giving_81 : decode cX2_giving 81 = .ok (.invokevirtual 165, 3) := dk_182 0 165 (dk_at dksX2_giving_3 13 rfl rfl)
theorem dX2_giving_84 : decode cX2_giving 84 = .ok (.ifCond .ne 20, 3) := dk_154 0 20 (dk_at dksX2_giving_3 16 rfl rfl)
theorem dX2_giving_87 : decode cX2_giving 87 = .ok (.aload_n 3, 1) := dk_45 (dk_at dksX2_giving_3 19 rfl rfl)
theorem dX2_giving_88 : decode cX2_giving 88 = .ok (.aload_n 2, 1) := dk_44 (dk_at dksX2_giving_3 20 rfl rfl)
theorem dX2_giving_89 : decode cX2_giving 89 = .ok (.invokevirtual 168, 3) := dk_182 0 168 (dk_at dksX2_giving_3 21 rfl rfl)
theorem dX2_giving_92 : decode cX2_giving 92 = .ok (.checkcast 78, 3) := dk_192 0 78 (dk_at dksX2_giving_4 0 rfl rfl)
theorem dX2_giving_95 : decode cX2_giving 95 = .ok (.invokeinterface 83 2, 5) := by decide +kernel
theorem dX2_giving_100 : decode cX2_giving 100 = .ok (.pop, 1) := dk_87 (dk_at dksX2_giving_4 8 rfl rfl)
theorem dX2_giving_101 : decode cX2_giving 101 = .ok (.goto (-21), 3) := dk_167 255 235 (dk_at dksX2_giving_4 9 rfl rfl)
theorem dX2_giving_104 : decode cX2_giving 104 = .ok (.aload_n 3, 1) := dk_45 (dk_at dksX2_giving_4 12 rfl rfl)
theorem dX2_giving_105 : decode cX2_giving 105 = .ok (.areturn, 1) := dk_176 (dk_at dksX2_giving_4 13 rfl rfl)
abbrev cX2_comes : ByteArray := prog_9_method_20_code
def yX2_comes : MethodName := ⟨RX2, "comes", "(ILWordCache$Line;I)V"⟩
def dkwX2_comes_3 : List UInt8 := [181, 0, 95, 177]
abbrev dktX2_comes_3 : List UInt8 := dkwX2_comes_3 ++ []
def dkwX2_comes_2 : List UInt8 := [180, 0, 9, 7, 27, 104, 44, 180, 0, 191, 3, 7, 184, 0, 52, 42, 89, 180, 0, 95, 4, 27, 120, 128]
abbrev dktX2_comes_2 : List UInt8 := dkwX2_comes_2 ++ dktX2_comes_3
def dkwX2_comes_1 : List UInt8 := [42, 44, 182, 0, 220, 54, 4, 42, 27, 7, 112, 8, 182, 0, 213, 44, 27, 29, 182, 0, 242, 42]
abbrev dktX2_comes_1 : List UInt8 := dkwX2_comes_1 ++ dktX2_comes_2
def dkwX2_comes_0 : List UInt8 := [42, 180, 0, 45, 42, 27, 182, 0, 239, 92, 46, 4, 96, 79, 42, 180, 0, 42, 27, 92, 46, 4, 96, 79]
abbrev dktX2_comes_0 : List UInt8 := dkwX2_comes_0 ++ dktX2_comes_1
theorem dksX2_comes_0 : cX2_comes.data.toList.drop 0 = dktX2_comes_0 := by decide +kernel
theorem dksX2_comes_1 : cX2_comes.data.toList.drop 24 = dktX2_comes_1 := dk_seg dksX2_comes_0 24 rfl rfl
theorem dksX2_comes_2 : cX2_comes.data.toList.drop 46 = dktX2_comes_2 := dk_seg dksX2_comes_1 22 rfl rfl
theorem dksX2_comes_3 : cX2_comes.data.toList.drop 70 = dktX2_comes_3 := dk_seg dksX2_comes_2 24 rfl rfl
theorem dX2_comes_0 : decode cX2_comes 0 = .ok (.aload_n 0, 1) := dk_42 (dk_at dksX2_comes_0 0 rfl rfl)
theorem dX2_comes_1 : decode cX2_comes 1 = .ok (.getfield 45, 3) := dk_180 0 45 (dk_at dksX2_comes_0 1 rfl rfl)
theorem dX2_comes_4 : decode cX2_comes 4 = .ok (.aload_n 0, 1) := dk_42 (dk_at dksX2_comes_0 4 rfl rfl)
theorem dX2_comes_5 : decode cX2_comes 5 = .ok (.iload_n 1, 1) := dk_27 (dk_at dksX2_comes_0 5 rfl rfl)
theorem dX2_comes_6 : decode cX2_comes 6 = .ok (.invokevirtual 239, 3) := dk_182 0 239 (dk_at dksX2_comes_0 6 rfl rfl)
theorem dX2_comes_9 : decode cX2_comes 9 = .ok (.dup2, 1) := dk_92 (dk_at dksX2_comes_0 9 rfl rfl)
theorem dX2_comes_10 : decode cX2_comes 10 = .ok (.iaload, 1) := dk_46 (dk_at dksX2_comes_0 10 rfl rfl)
theorem dX2_comes_11 : decode cX2_comes 11 = .ok (.iconst 1, 1) := dk_4 (dk_at dksX2_comes_0 11 rfl rfl)
theorem dX2_comes_12 : decode cX2_comes 12 = .ok (.iadd, 1) := dk_96 (dk_at dksX2_comes_0 12 rfl rfl)
theorem dX2_comes_13 : decode cX2_comes 13 = .ok (.iastore, 1) := dk_79 (dk_at dksX2_comes_0 13 rfl rfl)
theorem dX2_comes_14 : decode cX2_comes 14 = .ok (.aload_n 0, 1) := dk_42 (dk_at dksX2_comes_0 14 rfl rfl)
theorem dX2_comes_15 : decode cX2_comes 15 = .ok (.getfield 42, 3) := dk_180 0 42 (dk_at dksX2_comes_0 15 rfl rfl)
theorem dX2_comes_18 : decode cX2_comes 18 = .ok (.iload_n 1, 1) := dk_27 (dk_at dksX2_comes_0 18 rfl rfl)
theorem dX2_comes_19 : decode cX2_comes 19 = .ok (.dup2, 1) := dk_92 (dk_at dksX2_comes_0 19 rfl rfl)
theorem dX2_comes_20 : decode cX2_comes 20 = .ok (.iaload, 1) := dk_46 (dk_at dksX2_comes_0 20 rfl rfl)
theorem dX2_comes_21 : decode cX2_comes 21 = .ok (.iconst 1, 1) := dk_4 (dk_at dksX2_comes_0 21 rfl rfl)
theorem dX2_comes_22 : decode cX2_comes 22 = .ok (.iadd, 1) := dk_96 (dk_at dksX2_comes_0 22 rfl rfl)
theorem dX2_comes_23 : decode cX2_comes 23 = .ok (.iastore, 1) := dk_79 (dk_at dksX2_comes_0 23 rfl rfl)
theorem dX2_comes_24 : decode cX2_comes 24 = .ok (.aload_n 0, 1) := dk_42 (dk_at dksX2_comes_1 0 rfl rfl)
theorem dX2_comes_25 : decode cX2_comes 25 = .ok (.aload_n 2, 1) := dk_44 (dk_at dksX2_comes_1 1 rfl rfl)
theorem dX2_comes_26 : decode cX2_comes 26 = .ok (.invokevirtual 220, 3) := dk_182 0 220 (dk_at dksX2_comes_1 2 rfl rfl)
theorem dX2_comes_29 : decode cX2_comes 29 = .ok (.istore 4, 2) := dk_54 4 (dk_at dksX2_comes_1 5 rfl rfl)
theorem dX2_comes_31 : decode cX2_comes 31 = .ok (.aload_n 0, 1) := dk_42 (dk_at dksX2_comes_1 7 rfl rfl)
theorem dX2_comes_32 : decode cX2_comes 32 = .ok (.iload_n 1, 1) := dk_27 (dk_at dksX2_comes_1 8 rfl rfl)
theorem dX2_comes_33 : decode cX2_comes 33 = .ok (.iconst 4, 1) := dk_7 (dk_at dksX2_comes_1 9 rfl rfl)
theorem dX2_comes_34 : decode cX2_comes 34 = .ok (.irem, 1) := dk_112 (dk_at dksX2_comes_1 10 rfl rfl)
theorem dX2_comes_35 : decode cX2_comes 35 = .ok (.iconst 5, 1) := dk_8 (dk_at dksX2_comes_1 11 rfl rfl)
theorem dX2_comes_36 : decode cX2_comes 36 = .ok (.invokevirtual 213, 3) := dk_182 0 213 (dk_at dksX2_comes_1 12 rfl rfl)
theorem dX2_comes_39 : decode cX2_comes 39 = .ok (.aload_n 2, 1) := dk_44 (dk_at dksX2_comes_1 15 rfl rfl)
theorem dX2_comes_40 : decode cX2_comes 40 = .ok (.iload_n 1, 1) := dk_27 (dk_at dksX2_comes_1 16 rfl rfl)
theorem dX2_comes_41 : decode cX2_comes 41 = .ok (.iload_n 3, 1) := dk_29 (dk_at dksX2_comes_1 17 rfl rfl)
theorem dX2_comes_42 : decode cX2_comes 42 = .ok (.invokevirtual 242, 3) := dk_182 0 242 (dk_at dksX2_comes_1 18 rfl rfl)
theorem dX2_comes_45 : decode cX2_comes 45 = .ok (.aload_n 0, 1) := dk_42 (dk_at dksX2_comes_1 21 rfl rfl)
theorem dX2_comes_46 : decode cX2_comes 46 = .ok (.getfield 9, 3) := dk_180 0 9 (dk_at dksX2_comes_2 0 rfl rfl)
theorem dX2_comes_49 : decode cX2_comes 49 = .ok (.iconst 4, 1) := dk_7 (dk_at dksX2_comes_2 3 rfl rfl)
theorem dX2_comes_50 : decode cX2_comes 50 = .ok (.iload_n 1, 1) := dk_27 (dk_at dksX2_comes_2 4 rfl rfl)
theorem dX2_comes_51 : decode cX2_comes 51 = .ok (.imul, 1) := dk_104 (dk_at dksX2_comes_2 5 rfl rfl)
theorem dX2_comes_52 : decode cX2_comes 52 = .ok (.aload_n 2, 1) := dk_44 (dk_at dksX2_comes_2 6 rfl rfl)
theorem dX2_comes_53 : decode cX2_comes 53 = .ok (.getfield 191, 3) := dk_180 0 191 (dk_at dksX2_comes_2 7 rfl rfl)
theorem dX2_comes_56 : decode cX2_comes 56 = .ok (.iconst 0, 1) := dk_3 (dk_at dksX2_comes_2 10 rfl rfl)
theorem dX2_comes_57 : decode cX2_comes 57 = .ok (.iconst 4, 1) := dk_7 (dk_at dksX2_comes_2 11 rfl rfl)
theorem dX2_comes_58 : decode cX2_comes 58 = .ok (.invokestatic 52, 3) := dk_184 0 52 (dk_at dksX2_comes_2 12 rfl rfl)
theorem dX2_comes_61 : decode cX2_comes 61 = .ok (.aload_n 0, 1) := dk_42 (dk_at dksX2_comes_2 15 rfl rfl)
theorem dX2_comes_62 : decode cX2_comes 62 = .ok (.dup, 1) := dk_89 (dk_at dksX2_comes_2 16 rfl rfl)
theorem dX2_comes_63 : decode cX2_comes 63 = .ok (.getfield 95, 3) := dk_180 0 95 (dk_at dksX2_comes_2 17 rfl rfl)
theorem dX2_comes_66 : decode cX2_comes 66 = .ok (.iconst 1, 1) := dk_4 (dk_at dksX2_comes_2 20 rfl rfl)
theorem dX2_comes_67 : decode cX2_comes 67 = .ok (.iload_n 1, 1) := dk_27 (dk_at dksX2_comes_2 21 rfl rfl)
theorem dX2_comes_68 : decode cX2_comes 68 = .ok (.ishl, 1) := dk_120 (dk_at dksX2_comes_2 22 rfl rfl)
theorem dX2_comes_69 : decode cX2_comes 69 = .ok (.ior, 1) := dk_128 (dk_at dksX2_comes_2 23 rfl rfl)
theorem dX2_comes_70 : decode cX2_comes 70 = .ok (.putfield 95, 3) := dk_181 0 95 (dk_at dksX2_comes_3 0 rfl rfl)
theorem dX2_comes_73 : decode cX2_comes 73 = .ok (.return_, 1) := dk_177 (dk_at dksX2_comes_3 3 rfl rfl)
abbrev cX2_causeOf : ByteArray := prog_9_method_18_code
def yX2_causeOf : MethodName := ⟨RX2, "causeOf", "(I)I"⟩
def dkwX2_causeOf_2 : List UInt8 := [4, 167, 0, 4, 5, 172]
abbrev dktX2_causeOf_2 : List UInt8 := dkwX2_causeOf_2 ++ []
def dkwX2_causeOf_1 : List UInt8 := [61, 28, 2, 159, 0, 21, 28, 42, 180, 0, 25, 185, 0, 136, 1, 0, 42, 180, 0, 91, 104, 161, 0, 7]
abbrev dktX2_causeOf_1 : List UInt8 := dkwX2_causeOf_1 ++ dktX2_causeOf_2
def dkwX2_causeOf_0 : List UInt8 := [42, 180, 0, 95, 27, 122, 4, 126, 154, 0, 5, 3, 172, 42, 180, 0, 32, 27, 184, 0, 223, 182, 0, 229]
abbrev dktX2_causeOf_0 : List UInt8 := dkwX2_causeOf_0 ++ dktX2_causeOf_1
theorem dksX2_causeOf_0 : cX2_causeOf.data.toList.drop 0 = dktX2_causeOf_0 := by decide +kernel
theorem dksX2_causeOf_1 : cX2_causeOf.data.toList.drop 24 = dktX2_causeOf_1 := dk_seg dksX2_causeOf_0 24 rfl rfl
theorem dksX2_causeOf_2 : cX2_causeOf.data.toList.drop 48 = dktX2_causeOf_2 := dk_seg dksX2_causeOf_1 24 rfl rfl
theorem dX2_causeOf_0 : decode cX2_causeOf 0 = .ok (.aload_n 0, 1) := dk_42 (dk_at dksX2_causeOf_0 0 rfl rfl)
theorem dX2_causeOf_1 : decode cX2_causeOf 1 = .ok (.getfield 95, 3) := dk_180 0 95 (dk_at dksX2_causeOf_0 1 rfl rfl)
theorem dX2_causeOf_4 : decode cX2_causeOf 4 = .ok (.iload_n 1, 1) := dk_27 (dk_at dksX2_causeOf_0 4 rfl rfl)
theorem dX2_causeOf_5 : decode cX2_causeOf 5 = .ok (.ishr, 1) := dk_122 (dk_at dksX2_causeOf_0 5 rfl rfl)
theorem dX2_causeOf_6 : decode cX2_causeOf 6 = .ok (.iconst 1, 1) := dk_4 (dk_at dksX2_causeOf_0 6 rfl rfl)
theorem dX2_causeOf_7 : decode cX2_causeOf 7 = .ok (.iand, 1) := dk_126 (dk_at dksX2_causeOf_0 7 rfl rfl)
theorem dX2_causeOf_8 : decode cX2_causeOf 8 = .ok (.ifCond .ne 5, 3) := dk_154 0 5 (dk_at dksX2_causeOf_0 8 rfl rfl)
theorem dX2_causeOf_11 : decode cX2_causeOf 11 = .ok (.iconst 0, 1) := dk_3 (dk_at dksX2_causeOf_0 11 rfl rfl)
theorem dX2_causeOf_12 : decode cX2_causeOf 12 = .ok (.ireturn, 1) := dk_172 (dk_at dksX2_causeOf_0 12 rfl rfl)
theorem dX2_causeOf_13 : decode cX2_causeOf 13 = .ok (.aload_n 0, 1) := dk_42 (dk_at dksX2_causeOf_0 13 rfl rfl)
theorem dX2_causeOf_14 : decode cX2_causeOf 14 = .ok (.getfield 32, 3) := dk_180 0 32 (dk_at dksX2_causeOf_0 14 rfl rfl)
theorem dX2_causeOf_17 : decode cX2_causeOf 17 = .ok (.iload_n 1, 1) := dk_27 (dk_at dksX2_causeOf_0 17 rfl rfl)
theorem dX2_causeOf_18 : decode cX2_causeOf 18 = .ok (.invokestatic 223, 3) := dk_184 0 223 (dk_at dksX2_causeOf_0 18 rfl rfl)
theorem dX2_causeOf_21 : decode cX2_causeOf 21 = .ok (.invokevirtual 229, 3) := dk_182 0 229 (dk_at dksX2_causeOf_0 21 rfl rfl)
theorem dX2_causeOf_24 : decode cX2_causeOf 24 = .ok (.istore_n 2, 1) := dk_61 (dk_at dksX2_causeOf_1 0 rfl rfl)
theorem dX2_causeOf_25 : decode cX2_causeOf 25 = .ok (.iload_n 2, 1) := dk_28 (dk_at dksX2_causeOf_1 1 rfl rfl)
theorem dX2_causeOf_26 : decode cX2_causeOf 26 = .ok (.iconst (-1), 1) := dk_2 (dk_at dksX2_causeOf_1 2 rfl rfl)
theorem dX2_causeOf_27 : decode cX2_causeOf 27 = .ok (.if_icmp .eq 21, 3) := dk_159 0 21 (dk_at dksX2_causeOf_1 3 rfl rfl)
theorem dX2_causeOf_30 : decode cX2_causeOf 30 = .ok (.iload_n 2, 1) := dk_28 (dk_at dksX2_causeOf_1 6 rfl rfl)
theorem dX2_causeOf_31 : decode cX2_causeOf 31 = .ok (.aload_n 0, 1) := dk_42 (dk_at dksX2_causeOf_1 7 rfl rfl)
theorem dX2_causeOf_32 : decode cX2_causeOf 32 = .ok (.getfield 25, 3) := dk_180 0 25 (dk_at dksX2_causeOf_1 8 rfl rfl)
theorem dX2_causeOf_35 : decode cX2_causeOf 35 = .ok (.invokeinterface 136 1, 5) := by decide +kernel
theorem dX2_causeOf_40 : decode cX2_causeOf 40 = .ok (.aload_n 0, 1) := dk_42 (dk_at dksX2_causeOf_1 16 rfl rfl)
theorem dX2_causeOf_41 : decode cX2_causeOf 41 = .ok (.getfield 91, 3) := dk_180 0 91 (dk_at dksX2_causeOf_1 17 rfl rfl)
theorem dX2_causeOf_44 : decode cX2_causeOf 44 = .ok (.imul, 1) := dk_104 (dk_at dksX2_causeOf_1 20 rfl rfl)
theorem dX2_causeOf_45 : decode cX2_causeOf 45 = .ok (.if_icmp .lt 7, 3) := dk_161 0 7 (dk_at dksX2_causeOf_1 21 rfl rfl)
theorem dX2_causeOf_48 : decode cX2_causeOf 48 = .ok (.iconst 1, 1) := dk_4 (dk_at dksX2_causeOf_2 0 rfl rfl)
theorem dX2_causeOf_49 : decode cX2_causeOf 49 = .ok (.goto 4, 3) := dk_167 0 4 (dk_at dksX2_causeOf_2 1 rfl rfl)
theorem dX2_causeOf_52 : decode cX2_causeOf 52 = .ok (.iconst 2, 1) := dk_5 (dk_at dksX2_causeOf_2 4 rfl rfl)
theorem dX2_causeOf_53 : decode cX2_causeOf 53 = .ok (.ireturn, 1) := dk_172 (dk_at dksX2_causeOf_2 5 rfl rfl)
abbrev cX2_writesBack : ByteArray := prog_9_method_16_code
def yX2_writesBack : MethodName := ⟨RX2, "writesBack", "(LWordCache$Line;)I"⟩
def dkwX2_writesBack_1 : List UInt8 := [43, 182, 0, 216, 172]
abbrev dktX2_writesBack_1 : List UInt8 := dkwX2_writesBack_1 ++ []
def dkwX2_writesBack_0 : List UInt8 := [43, 180, 0, 207, 154, 0, 5, 3, 172, 42, 43, 182, 0, 210, 4, 43, 182, 0, 184, 104, 182, 0, 213, 42]
abbrev dktX2_writesBack_0 : List UInt8 := dkwX2_writesBack_0 ++ dktX2_writesBack_1
theorem dksX2_writesBack_0 : cX2_writesBack.data.toList.drop 0 = dktX2_writesBack_0 := by decide +kernel
theorem dksX2_writesBack_1 : cX2_writesBack.data.toList.drop 24 = dktX2_writesBack_1 := dk_seg dksX2_writesBack_0 24 rfl rfl
theorem dX2_writesBack_0 : decode cX2_writesBack 0 = .ok (.aload_n 1, 1) := dk_43 (dk_at dksX2_writesBack_0 0 rfl rfl)
theorem dX2_writesBack_1 : decode cX2_writesBack 1 = .ok (.getfield 207, 3) := dk_180 0 207 (dk_at dksX2_writesBack_0 1 rfl rfl)
theorem dX2_writesBack_4 : decode cX2_writesBack 4 = .ok (.ifCond .ne 5, 3) := dk_154 0 5 (dk_at dksX2_writesBack_0 4 rfl rfl)
theorem dX2_writesBack_7 : decode cX2_writesBack 7 = .ok (.iconst 0, 1) := dk_3 (dk_at dksX2_writesBack_0 7 rfl rfl)
theorem dX2_writesBack_8 : decode cX2_writesBack 8 = .ok (.ireturn, 1) := dk_172 (dk_at dksX2_writesBack_0 8 rfl rfl)
theorem dX2_writesBack_9 : decode cX2_writesBack 9 = .ok (.aload_n 0, 1) := dk_42 (dk_at dksX2_writesBack_0 9 rfl rfl)
theorem dX2_writesBack_10 : decode cX2_writesBack 10 = .ok (.aload_n 1, 1) := dk_43 (dk_at dksX2_writesBack_0 10 rfl rfl)
theorem dX2_writesBack_11 : decode cX2_writesBack 11 = .ok (.invokevirtual 210, 3) := dk_182 0 210 (dk_at dksX2_writesBack_0 11 rfl rfl)
theorem dX2_writesBack_14 : decode cX2_writesBack 14 = .ok (.iconst 1, 1) := dk_4 (dk_at dksX2_writesBack_0 14 rfl rfl)
theorem dX2_writesBack_15 : decode cX2_writesBack 15 = .ok (.aload_n 1, 1) := dk_43 (dk_at dksX2_writesBack_0 15 rfl rfl)
theorem dX2_writesBack_16 : decode cX2_writesBack 16 = .ok (.invokevirtual 184, 3) := dk_182 0 184 (dk_at dksX2_writesBack_0 16 rfl rfl)
theorem dX2_writesBack_19 : decode cX2_writesBack 19 = .ok (.imul, 1) := dk_104 (dk_at dksX2_writesBack_0 19 rfl rfl)
theorem dX2_writesBack_20 : decode cX2_writesBack 20 = .ok (.invokevirtual 213, 3) := dk_182 0 213 (dk_at dksX2_writesBack_0 20 rfl rfl)
theorem dX2_writesBack_23 : decode cX2_writesBack 23 = .ok (.aload_n 0, 1) := dk_42 (dk_at dksX2_writesBack_0 23 rfl rfl)
theorem dX2_writesBack_24 : decode cX2_writesBack 24 = .ok (.aload_n 1, 1) := dk_43 (dk_at dksX2_writesBack_1 0 rfl rfl)
theorem dX2_writesBack_25 : decode cX2_writesBack 25 = .ok (.invokevirtual 216, 3) := dk_182 0 216 (dk_at dksX2_writesBack_1 1 rfl rfl)
theorem dX2_writesBack_28 : decode cX2_writesBack 28 = .ok (.ireturn, 1) := dk_172 (dk_at dksX2_writesBack_1 4 rfl rfl)
abbrev cX2_works : ByteArray := prog_9_method_14_code
def yX2_works : MethodName := ⟨RX2, "works", "(II)V"⟩
def dkwX2_works_1 : List UInt8 := [7, 96, 79, 177]
abbrev dktX2_works_1 : List UInt8 := dkwX2_works_1 ++ []
def dkwX2_works_0 : List UInt8 := [42, 27, 182, 0, 204, 42, 89, 180, 0, 98, 28, 96, 181, 0, 98, 42, 180, 0, 36, 27, 42, 180, 0, 98]
abbrev dktX2_works_0 : List UInt8 := dkwX2_works_0 ++ dktX2_works_1
theorem dksX2_works_0 : cX2_works.data.toList.drop 0 = dktX2_works_0 := by decide +kernel
theorem dksX2_works_1 : cX2_works.data.toList.drop 24 = dktX2_works_1 := dk_seg dksX2_works_0 24 rfl rfl
theorem dX2_works_0 : decode cX2_works 0 = .ok (.aload_n 0, 1) := dk_42 (dk_at dksX2_works_0 0 rfl rfl)
theorem dX2_works_1 : decode cX2_works 1 = .ok (.iload_n 1, 1) := dk_27 (dk_at dksX2_works_0 1 rfl rfl)
theorem dX2_works_2 : decode cX2_works 2 = .ok (.invokevirtual 204, 3) := dk_182 0 204 (dk_at dksX2_works_0 2 rfl rfl)
theorem dX2_works_5 : decode cX2_works 5 = .ok (.aload_n 0, 1) := dk_42 (dk_at dksX2_works_0 5 rfl rfl)
theorem dX2_works_6 : decode cX2_works 6 = .ok (.dup, 1) := dk_89 (dk_at dksX2_works_0 6 rfl rfl)
theorem dX2_works_7 : decode cX2_works 7 = .ok (.getfield 98, 3) := dk_180 0 98 (dk_at dksX2_works_0 7 rfl rfl)
theorem dX2_works_10 : decode cX2_works 10 = .ok (.iload_n 2, 1) := dk_28 (dk_at dksX2_works_0 10 rfl rfl)
theorem dX2_works_11 : decode cX2_works 11 = .ok (.iadd, 1) := dk_96 (dk_at dksX2_works_0 11 rfl rfl)
theorem dX2_works_12 : decode cX2_works 12 = .ok (.putfield 98, 3) := dk_181 0 98 (dk_at dksX2_works_0 12 rfl rfl)
theorem dX2_works_15 : decode cX2_works 15 = .ok (.aload_n 0, 1) := dk_42 (dk_at dksX2_works_0 15 rfl rfl)
theorem dX2_works_16 : decode cX2_works 16 = .ok (.getfield 36, 3) := dk_180 0 36 (dk_at dksX2_works_0 16 rfl rfl)
theorem dX2_works_19 : decode cX2_works 19 = .ok (.iload_n 1, 1) := dk_27 (dk_at dksX2_works_0 19 rfl rfl)
theorem dX2_works_20 : decode cX2_works 20 = .ok (.aload_n 0, 1) := dk_42 (dk_at dksX2_works_0 20 rfl rfl)
theorem dX2_works_21 : decode cX2_works 21 = .ok (.getfield 98, 3) := dk_180 0 98 (dk_at dksX2_works_0 21 rfl rfl)
theorem dX2_works_24 : decode cX2_works 24 = .ok (.iconst 4, 1) := dk_7 (dk_at dksX2_works_1 0 rfl rfl)
theorem dX2_works_25 : decode cX2_works 25 = .ok (.iadd, 1) := dk_96 (dk_at dksX2_works_1 1 rfl rfl)
theorem dX2_works_26 : decode cX2_works 26 = .ok (.iastore, 1) := dk_79 (dk_at dksX2_works_1 2 rfl rfl)
theorem dX2_works_27 : decode cX2_works 27 = .ok (.return_, 1) := dk_177 (dk_at dksX2_works_1 3 rfl rfl)
abbrev cX2_waitsFor : ByteArray := prog_9_method_13_code
def yX2_waitsFor : MethodName := ⟨RX2, "waitsFor", "(I)V"⟩
def dkwX2_waitsFor_1 : List UInt8 := [181, 0, 98, 42, 89, 180, 0, 123, 28, 96, 181, 0, 123, 177]
abbrev dktX2_waitsFor_1 : List UInt8 := dkwX2_waitsFor_1 ++ []
def dkwX2_waitsFor_0 : List UInt8 := [3, 42, 180, 0, 36, 27, 46, 42, 180, 0, 98, 100, 184, 0, 198, 61, 42, 89, 180, 0, 98, 28, 96]
abbrev dktX2_waitsFor_0 : List UInt8 := dkwX2_waitsFor_0 ++ dktX2_waitsFor_1
theorem dksX2_waitsFor_0 : cX2_waitsFor.data.toList.drop 0 = dktX2_waitsFor_0 := by decide +kernel
theorem dksX2_waitsFor_1 : cX2_waitsFor.data.toList.drop 23 = dktX2_waitsFor_1 := dk_seg dksX2_waitsFor_0 23 rfl rfl
theorem dX2_waitsFor_0 : decode cX2_waitsFor 0 = .ok (.iconst 0, 1) := dk_3 (dk_at dksX2_waitsFor_0 0 rfl rfl)
theorem dX2_waitsFor_1 : decode cX2_waitsFor 1 = .ok (.aload_n 0, 1) := dk_42 (dk_at dksX2_waitsFor_0 1 rfl rfl)
theorem dX2_waitsFor_2 : decode cX2_waitsFor 2 = .ok (.getfield 36, 3) := dk_180 0 36 (dk_at dksX2_waitsFor_0 2 rfl rfl)
theorem dX2_waitsFor_5 : decode cX2_waitsFor 5 = .ok (.iload_n 1, 1) := dk_27 (dk_at dksX2_waitsFor_0 5 rfl rfl)
theorem dX2_waitsFor_6 : decode cX2_waitsFor 6 = .ok (.iaload, 1) := dk_46 (dk_at dksX2_waitsFor_0 6 rfl rfl)
theorem dX2_waitsFor_7 : decode cX2_waitsFor 7 = .ok (.aload_n 0, 1) := dk_42 (dk_at dksX2_waitsFor_0 7 rfl rfl)
theorem dX2_waitsFor_8 : decode cX2_waitsFor 8 = .ok (.getfield 98, 3) := dk_180 0 98 (dk_at dksX2_waitsFor_0 8 rfl rfl)
theorem dX2_waitsFor_11 : decode cX2_waitsFor 11 = .ok (.isub, 1) := dk_100 (dk_at dksX2_waitsFor_0 11 rfl rfl)
theorem dX2_waitsFor_12 : decode cX2_waitsFor 12 = .ok (.invokestatic 198, 3) := dk_184 0 198 (dk_at dksX2_waitsFor_0 12 rfl rfl)
theorem dX2_waitsFor_15 : decode cX2_waitsFor 15 = .ok (.istore_n 2, 1) := dk_61 (dk_at dksX2_waitsFor_0 15 rfl rfl)
theorem dX2_waitsFor_16 : decode cX2_waitsFor 16 = .ok (.aload_n 0, 1) := dk_42 (dk_at dksX2_waitsFor_0 16 rfl rfl)
theorem dX2_waitsFor_17 : decode cX2_waitsFor 17 = .ok (.dup, 1) := dk_89 (dk_at dksX2_waitsFor_0 17 rfl rfl)
theorem dX2_waitsFor_18 : decode cX2_waitsFor 18 = .ok (.getfield 98, 3) := dk_180 0 98 (dk_at dksX2_waitsFor_0 18 rfl rfl)
theorem dX2_waitsFor_21 : decode cX2_waitsFor 21 = .ok (.iload_n 2, 1) := dk_28 (dk_at dksX2_waitsFor_0 21 rfl rfl)
theorem dX2_waitsFor_22 : decode cX2_waitsFor 22 = .ok (.iadd, 1) := dk_96 (dk_at dksX2_waitsFor_0 22 rfl rfl)
theorem dX2_waitsFor_23 : decode cX2_waitsFor 23 = .ok (.putfield 98, 3) := dk_181 0 98 (dk_at dksX2_waitsFor_1 0 rfl rfl)
theorem dX2_waitsFor_26 : decode cX2_waitsFor 26 = .ok (.aload_n 0, 1) := dk_42 (dk_at dksX2_waitsFor_1 3 rfl rfl)
theorem dX2_waitsFor_27 : decode cX2_waitsFor 27 = .ok (.dup, 1) := dk_89 (dk_at dksX2_waitsFor_1 4 rfl rfl)
theorem dX2_waitsFor_28 : decode cX2_waitsFor 28 = .ok (.getfield 123, 3) := dk_180 0 123 (dk_at dksX2_waitsFor_1 5 rfl rfl)
theorem dX2_waitsFor_31 : decode cX2_waitsFor 31 = .ok (.iload_n 2, 1) := dk_28 (dk_at dksX2_waitsFor_1 8 rfl rfl)
theorem dX2_waitsFor_32 : decode cX2_waitsFor 32 = .ok (.iadd, 1) := dk_96 (dk_at dksX2_waitsFor_1 9 rfl rfl)
theorem dX2_waitsFor_33 : decode cX2_waitsFor 33 = .ok (.putfield 123, 3) := dk_181 0 123 (dk_at dksX2_waitsFor_1 10 rfl rfl)
theorem dX2_waitsFor_36 : decode cX2_waitsFor 36 = .ok (.return_, 1) := dk_177 (dk_at dksX2_waitsFor_1 13 rfl rfl)
abbrev cX2_copiesBack : ByteArray := prog_9_method_15_code
def yX2_copiesBack : MethodName := ⟨RX2, "copiesBack", "(LWordCache$Line;)I"⟩
def dkwX2_copiesBack_2 : List UInt8 := [181, 0, 207, 42, 89, 180, 0, 117, 28, 96, 181, 0, 117, 28, 172]
abbrev dktX2_copiesBack_2 : List UInt8 := dkwX2_copiesBack_2 ++ []
def dkwX2_copiesBack_1 : List UInt8 := [7, 43, 180, 0, 148, 104, 29, 96, 43, 180, 0, 191, 29, 46, 79, 132, 3, 1, 167, 255, 221, 43, 3]
abbrev dktX2_copiesBack_1 : List UInt8 := dkwX2_copiesBack_1 ++ dktX2_copiesBack_2
def dkwX2_copiesBack_0 : List UInt8 := [43, 182, 0, 184, 61, 3, 62, 29, 7, 162, 0, 36, 43, 29, 182, 0, 194, 153, 0, 22, 42, 180, 0, 9]
abbrev dktX2_copiesBack_0 : List UInt8 := dkwX2_copiesBack_0 ++ dktX2_copiesBack_1
theorem dksX2_copiesBack_0 : cX2_copiesBack.data.toList.drop 0 = dktX2_copiesBack_0 := by decide +kernel
theorem dksX2_copiesBack_1 : cX2_copiesBack.data.toList.drop 24 = dktX2_copiesBack_1 := dk_seg dksX2_copiesBack_0 24 rfl rfl
theorem dksX2_copiesBack_2 : cX2_copiesBack.data.toList.drop 47 = dktX2_copiesBack_2 := dk_seg dksX2_copiesBack_1 23 rfl rfl
theorem dX2_copiesBack_0 : decode cX2_copiesBack 0 = .ok (.aload_n 1, 1) := dk_43 (dk_at dksX2_copiesBack_0 0 rfl rfl)
theorem dX2_copiesBack_1 : decode cX2_copiesBack 1 = .ok (.invokevirtual 184, 3) := dk_182 0 184 (dk_at dksX2_copiesBack_0 1 rfl rfl)
theorem dX2_copiesBack_4 : decode cX2_copiesBack 4 = .ok (.istore_n 2, 1) := dk_61 (dk_at dksX2_copiesBack_0 4 rfl rfl)
theorem dX2_copiesBack_5 : decode cX2_copiesBack 5 = .ok (.iconst 0, 1) := dk_3 (dk_at dksX2_copiesBack_0 5 rfl rfl)
theorem dX2_copiesBack_6 : decode cX2_copiesBack 6 = .ok (.istore_n 3, 1) := dk_62 (dk_at dksX2_copiesBack_0 6 rfl rfl)
theorem dX2_copiesBack_7 : decode cX2_copiesBack 7 = .ok (.iload_n 3, 1) := dk_29 (dk_at dksX2_copiesBack_0 7 rfl rfl)
theorem dX2_copiesBack_8 : decode cX2_copiesBack 8 = .ok (.iconst 4, 1) := dk_7 (dk_at dksX2_copiesBack_0 8 rfl rfl)
theorem dX2_copiesBack_9 : decode cX2_copiesBack 9 = .ok (.if_icmp .ge 36, 3) := dk_162 0 36 (dk_at dksX2_copiesBack_0 9 rfl rfl)
theorem dX2_copiesBack_12 : decode cX2_copiesBack 12 = .ok (.aload_n 1, 1) := dk_43 (dk_at dksX2_copiesBack_0 12 rfl rfl)
theorem dX2_copiesBack_13 : decode cX2_copiesBack 13 = .ok (.iload_n 3, 1) := dk_29 (dk_at dksX2_copiesBack_0 13 rfl rfl)
theorem dX2_copiesBack_14 : decode cX2_copiesBack 14 = .ok (.invokevirtual 194, 3) := dk_182 0 194 (dk_at dksX2_copiesBack_0 14 rfl rfl)
theorem dX2_copiesBack_17 : decode cX2_copiesBack 17 = .ok (.ifCond .eq 22, 3) := dk_153 0 22 (dk_at dksX2_copiesBack_0 17 rfl rfl)
theorem dX2_copiesBack_20 : decode cX2_copiesBack 20 = .ok (.aload_n 0, 1) := dk_42 (dk_at dksX2_copiesBack_0 20 rfl rfl)
theorem dX2_copiesBack_21 : decode cX2_copiesBack 21 = .ok (.getfield 9, 3) := dk_180 0 9 (dk_at dksX2_copiesBack_0 21 rfl rfl)
theorem dX2_copiesBack_24 : decode cX2_copiesBack 24 = .ok (.iconst 4, 1) := dk_7 (dk_at dksX2_copiesBack_1 0 rfl rfl)
theorem dX2_copiesBack_25 : decode cX2_copiesBack 25 = .ok (.aload_n 1, 1) := dk_43 (dk_at dksX2_copiesBack_1 1 rfl rfl)
theorem dX2_copiesBack_26 : decode cX2_copiesBack 26 = .ok (.getfield 148, 3) := dk_180 0 148 (dk_at dksX2_copiesBack_1 2 rfl rfl)
theorem dX2_copiesBack_29 : decode cX2_copiesBack 29 = .ok (.imul, 1) := dk_104 (dk_at dksX2_copiesBack_1 5 rfl rfl)
theorem dX2_copiesBack_30 : decode cX2_copiesBack 30 = .ok (.iload_n 3, 1) := dk_29 (dk_at dksX2_copiesBack_1 6 rfl rfl)
theorem dX2_copiesBack_31 : decode cX2_copiesBack 31 = .ok (.iadd, 1) := dk_96 (dk_at dksX2_copiesBack_1 7 rfl rfl)
theorem dX2_copiesBack_32 : decode cX2_copiesBack 32 = .ok (.aload_n 1, 1) := dk_43 (dk_at dksX2_copiesBack_1 8 rfl rfl)
theorem dX2_copiesBack_33 : decode cX2_copiesBack 33 = .ok (.getfield 191, 3) := dk_180 0 191 (dk_at dksX2_copiesBack_1 9 rfl rfl)
theorem dX2_copiesBack_36 : decode cX2_copiesBack 36 = .ok (.iload_n 3, 1) := dk_29 (dk_at dksX2_copiesBack_1 12 rfl rfl)
theorem dX2_copiesBack_37 : decode cX2_copiesBack 37 = .ok (.iaload, 1) := dk_46 (dk_at dksX2_copiesBack_1 13 rfl rfl)
theorem dX2_copiesBack_38 : decode cX2_copiesBack 38 = .ok (.iastore, 1) := dk_79 (dk_at dksX2_copiesBack_1 14 rfl rfl)
theorem dX2_copiesBack_39 : decode cX2_copiesBack 39 = .ok (.iinc 3 1, 3) := dk_132 3 1 (dk_at dksX2_copiesBack_1 15 rfl rfl)
theorem dX2_copiesBack_42 : decode cX2_copiesBack 42 = .ok (.goto (-35), 3) := dk_167 255 221 (dk_at dksX2_copiesBack_1 18 rfl rfl)
theorem dX2_copiesBack_45 : decode cX2_copiesBack 45 = .ok (.aload_n 1, 1) := dk_43 (dk_at dksX2_copiesBack_1 21 rfl rfl)
theorem dX2_copiesBack_46 : decode cX2_copiesBack 46 = .ok (.iconst 0, 1) := dk_3 (dk_at dksX2_copiesBack_1 22 rfl rfl)
theorem dX2_copiesBack_47 : decode cX2_copiesBack 47 = .ok (.putfield 207, 3) := dk_181 0 207 (dk_at dksX2_copiesBack_2 0 rfl rfl)
theorem dX2_copiesBack_50 : decode cX2_copiesBack 50 = .ok (.aload_n 0, 1) := dk_42 (dk_at dksX2_copiesBack_2 3 rfl rfl)
theorem dX2_copiesBack_51 : decode cX2_copiesBack 51 = .ok (.dup, 1) := dk_89 (dk_at dksX2_copiesBack_2 4 rfl rfl)
theorem dX2_copiesBack_52 : decode cX2_copiesBack 52 = .ok (.getfield 117, 3) := dk_180 0 117 (dk_at dksX2_copiesBack_2 5 rfl rfl)
theorem dX2_copiesBack_55 : decode cX2_copiesBack 55 = .ok (.iload_n 2, 1) := dk_28 (dk_at dksX2_copiesBack_2 8 rfl rfl)
theorem dX2_copiesBack_56 : decode cX2_copiesBack 56 = .ok (.iadd, 1) := dk_96 (dk_at dksX2_copiesBack_2 9 rfl rfl)
theorem dX2_copiesBack_57 : decode cX2_copiesBack 57 = .ok (.putfield 117, 3) := dk_181 0 117 (dk_at dksX2_copiesBack_2 10 rfl rfl)
theorem dX2_copiesBack_60 : decode cX2_copiesBack 60 = .ok (.iload_n 2, 1) := dk_28 (dk_at dksX2_copiesBack_2 13 rfl rfl)
theorem dX2_copiesBack_61 : decode cX2_copiesBack 61 = .ok (.ireturn, 1) := dk_172 (dk_at dksX2_copiesBack_2 14 rfl rfl)
abbrev cX2_counts : ByteArray := prog_9_method_19_code
def yX2_counts : MethodName := ⟨RX2, "counts", "(I)V"⟩
def dkwX2_counts_1 : List UInt8 := [180, 0, 39, 27, 92, 46, 4, 96, 79, 177]
abbrev dktX2_counts_1 : List UInt8 := dkwX2_counts_1 ++ []
def dkwX2_counts_0 : List UInt8 := [42, 180, 0, 32, 27, 184, 0, 223, 182, 0, 233, 87, 42, 180, 0, 32, 27, 184, 0, 223, 182, 0, 235, 42]
abbrev dktX2_counts_0 : List UInt8 := dkwX2_counts_0 ++ dktX2_counts_1
theorem dksX2_counts_0 : cX2_counts.data.toList.drop 0 = dktX2_counts_0 := by decide +kernel
theorem dksX2_counts_1 : cX2_counts.data.toList.drop 24 = dktX2_counts_1 := dk_seg dksX2_counts_0 24 rfl rfl
theorem dX2_counts_0 : decode cX2_counts 0 = .ok (.aload_n 0, 1) := dk_42 (dk_at dksX2_counts_0 0 rfl rfl)
theorem dX2_counts_1 : decode cX2_counts 1 = .ok (.getfield 32, 3) := dk_180 0 32 (dk_at dksX2_counts_0 1 rfl rfl)
theorem dX2_counts_4 : decode cX2_counts 4 = .ok (.iload_n 1, 1) := dk_27 (dk_at dksX2_counts_0 4 rfl rfl)
theorem dX2_counts_5 : decode cX2_counts 5 = .ok (.invokestatic 223, 3) := dk_184 0 223 (dk_at dksX2_counts_0 5 rfl rfl)
theorem dX2_counts_8 : decode cX2_counts 8 = .ok (.invokevirtual 233, 3) := dk_182 0 233 (dk_at dksX2_counts_0 8 rfl rfl)
theorem dX2_counts_11 : decode cX2_counts 11 = .ok (.pop, 1) := dk_87 (dk_at dksX2_counts_0 11 rfl rfl)
theorem dX2_counts_12 : decode cX2_counts 12 = .ok (.aload_n 0, 1) := dk_42 (dk_at dksX2_counts_0 12 rfl rfl)
theorem dX2_counts_13 : decode cX2_counts 13 = .ok (.getfield 32, 3) := dk_180 0 32 (dk_at dksX2_counts_0 13 rfl rfl)
theorem dX2_counts_16 : decode cX2_counts 16 = .ok (.iload_n 1, 1) := dk_27 (dk_at dksX2_counts_0 16 rfl rfl)
theorem dX2_counts_17 : decode cX2_counts 17 = .ok (.invokestatic 223, 3) := dk_184 0 223 (dk_at dksX2_counts_0 17 rfl rfl)
theorem dX2_counts_20 : decode cX2_counts 20 = .ok (.invokevirtual 235, 3) := dk_182 0 235 (dk_at dksX2_counts_0 20 rfl rfl)
theorem dX2_counts_23 : decode cX2_counts 23 = .ok (.aload_n 0, 1) := dk_42 (dk_at dksX2_counts_0 23 rfl rfl)
theorem dX2_counts_24 : decode cX2_counts 24 = .ok (.getfield 39, 3) := dk_180 0 39 (dk_at dksX2_counts_1 0 rfl rfl)
theorem dX2_counts_27 : decode cX2_counts 27 = .ok (.iload_n 1, 1) := dk_27 (dk_at dksX2_counts_1 3 rfl rfl)
theorem dX2_counts_28 : decode cX2_counts 28 = .ok (.dup2, 1) := dk_92 (dk_at dksX2_counts_1 4 rfl rfl)
theorem dX2_counts_29 : decode cX2_counts 29 = .ok (.iaload, 1) := dk_46 (dk_at dksX2_counts_1 5 rfl rfl)
theorem dX2_counts_30 : decode cX2_counts 30 = .ok (.iconst 1, 1) := dk_4 (dk_at dksX2_counts_1 6 rfl rfl)
theorem dX2_counts_31 : decode cX2_counts 31 = .ok (.iadd, 1) := dk_96 (dk_at dksX2_counts_1 7 rfl rfl)
theorem dX2_counts_32 : decode cX2_counts 32 = .ok (.iastore, 1) := dk_79 (dk_at dksX2_counts_1 8 rfl rfl)
theorem dX2_counts_33 : decode cX2_counts 33 = .ok (.return_, 1) := dk_177 (dk_at dksX2_counts_1 9 rfl rfl)
abbrev cX2_writesWord : ByteArray := prog_9_method_23_code
def yX2_writesWord : MethodName := ⟨RX2, "writesWord", "(II)I"⟩
def dkwX2_writesWord_4 : List UInt8 := [184, 0, 223, 28, 184, 0, 223, 182, 1, 18, 87, 42, 180, 0, 98, 29, 100, 172]
abbrev dktX2_writesWord_4 : List UInt8 := dkwX2_writesWord_4 ++ []
def dkwX2_writesWord_3 : List UInt8 := [42, 180, 0, 9, 27, 28, 79, 42, 89, 180, 0, 120, 4, 96, 181, 0, 120, 42, 180, 0, 18, 27]
abbrev dktX2_writesWord_3 : List UInt8 := dkwX2_writesWord_3 ++ dktX2_writesWord_4
def dkwX2_writesWord_2 : List UInt8 := [167, 0, 4, 3, 182, 1, 14, 42, 180, 0, 104, 153, 0, 30, 42, 25, 4, 182, 0, 210, 4, 182, 0, 213]
abbrev dktX2_writesWord_2 : List UInt8 := dkwX2_writesWord_2 ++ dktX2_writesWord_3
def dkwX2_writesWord_1 : List UInt8 := [180, 0, 111, 4, 96, 181, 0, 111, 25, 4, 27, 7, 112, 28, 42, 180, 0, 104, 154, 0, 7, 4]
abbrev dktX2_writesWord_1 : List UInt8 := dkwX2_writesWord_1 ++ dktX2_writesWord_2
def dkwX2_writesWord_0 : List UInt8 := [27, 184, 1, 6, 28, 184, 1, 11, 42, 180, 0, 98, 62, 42, 27, 7, 108, 182, 1, 9, 58, 4, 42, 89]
abbrev dktX2_writesWord_0 : List UInt8 := dkwX2_writesWord_0 ++ dktX2_writesWord_1
theorem dksX2_writesWord_0 : cX2_writesWord.data.toList.drop 0 = dktX2_writesWord_0 := by decide +kernel
theorem dksX2_writesWord_1 : cX2_writesWord.data.toList.drop 24 = dktX2_writesWord_1 := dk_seg dksX2_writesWord_0 24 rfl rfl
theorem dksX2_writesWord_2 : cX2_writesWord.data.toList.drop 46 = dktX2_writesWord_2 := dk_seg dksX2_writesWord_1 22 rfl rfl
theorem dksX2_writesWord_3 : cX2_writesWord.data.toList.drop 70 = dktX2_writesWord_3 := dk_seg dksX2_writesWord_2 24 rfl rfl
theorem dksX2_writesWord_4 : cX2_writesWord.data.toList.drop 92 = dktX2_writesWord_4 := dk_seg dksX2_writesWord_3 22 rfl rfl
theorem dX2_writesWord_0 : decode cX2_writesWord 0 = .ok (.iload_n 1, 1) := dk_27 (dk_at dksX2_writesWord_0 0 rfl rfl)
theorem dX2_writesWord_1 : decode cX2_writesWord 1 = .ok (.invokestatic 262, 3) := dk_184 1 6 (dk_at dksX2_writesWord_0 1 rfl rfl)
theorem dX2_writesWord_4 : decode cX2_writesWord 4 = .ok (.iload_n 2, 1) := dk_28 (dk_at dksX2_writesWord_0 4 rfl rfl)
theorem dX2_writesWord_5 : decode cX2_writesWord 5 = .ok (.invokestatic 267, 3) := dk_184 1 11 (dk_at dksX2_writesWord_0 5 rfl rfl)
theorem dX2_writesWord_8 : decode cX2_writesWord 8 = .ok (.aload_n 0, 1) := dk_42 (dk_at dksX2_writesWord_0 8 rfl rfl)
theorem dX2_writesWord_9 : decode cX2_writesWord 9 = .ok (.getfield 98, 3) := dk_180 0 98 (dk_at dksX2_writesWord_0 9 rfl rfl)
theorem dX2_writesWord_12 : decode cX2_writesWord 12 = .ok (.istore_n 3, 1) := dk_62 (dk_at dksX2_writesWord_0 12 rfl rfl)
theorem dX2_writesWord_13 : decode cX2_writesWord 13 = .ok (.aload_n 0, 1) := dk_42 (dk_at dksX2_writesWord_0 13 rfl rfl)
theorem dX2_writesWord_14 : decode cX2_writesWord 14 = .ok (.iload_n 1, 1) := dk_27 (dk_at dksX2_writesWord_0 14 rfl rfl)
theorem dX2_writesWord_15 : decode cX2_writesWord 15 = .ok (.iconst 4, 1) := dk_7 (dk_at dksX2_writesWord_0 15 rfl rfl)
theorem dX2_writesWord_16 : decode cX2_writesWord 16 = .ok (.idiv, 1) := dk_108 (dk_at dksX2_writesWord_0 16 rfl rfl)
theorem dX2_writesWord_17 : decode cX2_writesWord 17 = .ok (.invokevirtual 265, 3) := dk_182 1 9 (dk_at dksX2_writesWord_0 17 rfl rfl)
theorem dX2_writesWord_20 : decode cX2_writesWord 20 = .ok (.astore 4, 2) := dk_58 4 (dk_at dksX2_writesWord_0 20 rfl rfl)
theorem dX2_writesWord_22 : decode cX2_writesWord 22 = .ok (.aload_n 0, 1) := dk_42 (dk_at dksX2_writesWord_0 22 rfl rfl)
theorem dX2_writesWord_23 : decode cX2_writesWord 23 = .ok (.dup, 1) := dk_89 (dk_at dksX2_writesWord_0 23 rfl rfl)
theorem dX2_writesWord_24 : decode cX2_writesWord 24 = .ok (.getfield 111, 3) := dk_180 0 111 (dk_at dksX2_writesWord_1 0 rfl rfl)
theorem dX2_writesWord_27 : decode cX2_writesWord 27 = .ok (.iconst 1, 1) := dk_4 (dk_at dksX2_writesWord_1 3 rfl rfl)
theorem dX2_writesWord_28 : decode cX2_writesWord 28 = .ok (.iadd, 1) := dk_96 (dk_at dksX2_writesWord_1 4 rfl rfl)
theorem dX2_writesWord_29 : decode cX2_writesWord 29 = .ok (.putfield 111, 3) := dk_181 0 111 (dk_at dksX2_writesWord_1 5 rfl rfl)
theorem dX2_writesWord_32 : decode cX2_writesWord 32 = .ok (.aload 4, 2) := dk_25 4 (dk_at dksX2_writesWord_1 8 rfl rfl)
theorem dX2_writesWord_34 : decode cX2_writesWord 34 = .ok (.iload_n 1, 1) := dk_27 (dk_at dksX2_writesWord_1 10 rfl rfl)
theorem dX2_writesWord_35 : decode cX2_writesWord 35 = .ok (.iconst 4, 1) := dk_7 (dk_at dksX2_writesWord_1 11 rfl rfl)
theorem dX2_writesWord_36 : decode cX2_writesWord 36 = .ok (.irem, 1) := dk_112 (dk_at dksX2_writesWord_1 12 rfl rfl)
theorem dX2_writesWord_37 : decode cX2_writesWord 37 = .ok (.iload_n 2, 1) := dk_28 (dk_at dksX2_writesWord_1 13 rfl rfl)
theorem dX2_writesWord_38 : decode cX2_writesWord 38 = .ok (.aload_n 0, 1) := dk_42 (dk_at dksX2_writesWord_1 14 rfl rfl)
theorem dX2_writesWord_39 : decode cX2_writesWord 39 = .ok (.getfield 104, 3) := dk_180 0 104 (dk_at dksX2_writesWord_1 15 rfl rfl)
theorem dX2_writesWord_42 : decode cX2_writesWord 42 = .ok (.ifCond .ne 7, 3) := dk_154 0 7 (dk_at dksX2_writesWord_1 18 rfl rfl)
theorem dX2_writesWord_45 : decode cX2_writesWord 45 = .ok (.iconst 1, 1) := dk_4 (dk_at dksX2_writesWord_1 21 rfl rfl)
theorem dX2_writesWord_46 : decode cX2_writesWord 46 = .ok (.goto 4, 3) := dk_167 0 4 (dk_at dksX2_writesWord_2 0 rfl rfl)
theorem dX2_writesWord_49 : decode cX2_writesWord 49 = .ok (.iconst 0, 1) := dk_3 (dk_at dksX2_writesWord_2 3 rfl rfl)
theorem dX2_writesWord_50 : decode cX2_writesWord 50 = .ok (.invokevirtual 270, 3) := dk_182 1 14 (dk_at dksX2_writesWord_2 4 rfl rfl)
theorem dX2_writesWord_53 : decode cX2_writesWord 53 = .ok (.aload_n 0, 1) := dk_42 (dk_at dksX2_writesWord_2 7 rfl rfl)
theorem dX2_writesWord_54 : decode cX2_writesWord 54 = .ok (.getfield 104, 3) := dk_180 0 104 (dk_at dksX2_writesWord_2 8 rfl rfl)
theorem dX2_writesWord_57 : decode cX2_writesWord 57 = .ok (.ifCond .eq 30, 3) := dk_153 0 30 (dk_at dksX2_writesWord_2 11 rfl rfl)
theorem dX2_writesWord_60 : decode cX2_writesWord 60 = .ok (.aload_n 0, 1) := dk_42 (dk_at dksX2_writesWord_2 14 rfl rfl)
theorem dX2_writesWord_61 : decode cX2_writesWord 61 = .ok (.aload 4, 2) := dk_25 4 (dk_at dksX2_writesWord_2 15 rfl rfl)
theorem dX2_writesWord_63 : decode cX2_writesWord 63 = .ok (.invokevirtual 210, 3) := dk_182 0 210 (dk_at dksX2_writesWord_2 17 rfl rfl)
theorem dX2_writesWord_66 : decode cX2_writesWord 66 = .ok (.iconst 1, 1) := dk_4 (dk_at dksX2_writesWord_2 20 rfl rfl)
theorem dX2_writesWord_67 : decode cX2_writesWord 67 = .ok (.invokevirtual 213, 3) := dk_182 0 213 (dk_at dksX2_writesWord_2 21 rfl rfl)
theorem dX2_writesWord_70 : decode cX2_writesWord 70 = .ok (.aload_n 0, 1) := dk_42 (dk_at dksX2_writesWord_3 0 rfl rfl)
theorem dX2_writesWord_71 : decode cX2_writesWord 71 = .ok (.getfield 9, 3) := dk_180 0 9 (dk_at dksX2_writesWord_3 1 rfl rfl)
theorem dX2_writesWord_74 : decode cX2_writesWord 74 = .ok (.iload_n 1, 1) := dk_27 (dk_at dksX2_writesWord_3 4 rfl rfl)
theorem dX2_writesWord_75 : decode cX2_writesWord 75 = .ok (.iload_n 2, 1) := dk_28 (dk_at dksX2_writesWord_3 5 rfl rfl)
theorem dX2_writesWord_76 : decode cX2_writesWord 76 = .ok (.iastore, 1) := dk_79 (dk_at dksX2_writesWord_3 6 rfl rfl)
theorem dX2_writesWord_77 : decode cX2_writesWord 77 = .ok (.aload_n 0, 1) := dk_42 (dk_at dksX2_writesWord_3 7 rfl rfl)
theorem dX2_writesWord_78 : decode cX2_writesWord 78 = .ok (.dup, 1) := dk_89 (dk_at dksX2_writesWord_3 8 rfl rfl)
theorem dX2_writesWord_79 : decode cX2_writesWord 79 = .ok (.getfield 120, 3) := dk_180 0 120 (dk_at dksX2_writesWord_3 9 rfl rfl)
theorem dX2_writesWord_82 : decode cX2_writesWord 82 = .ok (.iconst 1, 1) := dk_4 (dk_at dksX2_writesWord_3 12 rfl rfl)
theorem dX2_writesWord_83 : decode cX2_writesWord 83 = .ok (.iadd, 1) := dk_96 (dk_at dksX2_writesWord_3 13 rfl rfl)
theorem dX2_writesWord_84 : decode cX2_writesWord 84 = .ok (.putfield 120, 3) := dk_181 0 120 (dk_at dksX2_writesWord_3 14 rfl rfl)
theorem dX2_writesWord_87 : decode cX2_writesWord 87 = .ok (.aload_n 0, 1) := dk_42 (dk_at dksX2_writesWord_3 17 rfl rfl)
theorem dX2_writesWord_88 : decode cX2_writesWord 88 = .ok (.getfield 18, 3) := dk_180 0 18 (dk_at dksX2_writesWord_3 18 rfl rfl)
theorem dX2_writesWord_91 : decode cX2_writesWord 91 = .ok (.iload_n 1, 1) := dk_27 (dk_at dksX2_writesWord_3 21 rfl rfl)
theorem dX2_writesWord_92 : decode cX2_writesWord 92 = .ok (.invokestatic 223, 3) := dk_184 0 223 (dk_at dksX2_writesWord_4 0 rfl rfl)
theorem dX2_writesWord_95 : decode cX2_writesWord 95 = .ok (.iload_n 2, 1) := dk_28 (dk_at dksX2_writesWord_4 3 rfl rfl)
theorem dX2_writesWord_96 : decode cX2_writesWord 96 = .ok (.invokestatic 223, 3) := dk_184 0 223 (dk_at dksX2_writesWord_4 4 rfl rfl)
theorem dX2_writesWord_99 : decode cX2_writesWord 99 = .ok (.invokevirtual 274, 3) := dk_182 1 18 (dk_at dksX2_writesWord_4 7 rfl rfl)
theorem dX2_writesWord_102 : decode cX2_writesWord 102 = .ok (.pop, 1) := dk_87 (dk_at dksX2_writesWord_4 10 rfl rfl)
theorem dX2_writesWord_103 : decode cX2_writesWord 103 = .ok (.aload_n 0, 1) := dk_42 (dk_at dksX2_writesWord_4 11 rfl rfl)
theorem dX2_writesWord_104 : decode cX2_writesWord 104 = .ok (.getfield 98, 3) := dk_180 0 98 (dk_at dksX2_writesWord_4 12 rfl rfl)
theorem dX2_writesWord_107 : decode cX2_writesWord 107 = .ok (.iload_n 3, 1) := dk_29 (dk_at dksX2_writesWord_4 15 rfl rfl)
theorem dX2_writesWord_108 : decode cX2_writesWord 108 = .ok (.isub, 1) := dk_100 (dk_at dksX2_writesWord_4 16 rfl rfl)
theorem dX2_writesWord_109 : decode cX2_writesWord 109 = .ok (.ireturn, 1) := dk_172 (dk_at dksX2_writesWord_4 17 rfl rfl)
abbrev cX2_pins : ByteArray := prog_9_method_28_code
def yX2_pins : MethodName := ⟨RX2, "pins", "(I)I"⟩
def dkwX2_pins_1 : List UInt8 := [184, 0, 248, 44, 4, 181, 0, 177, 42, 42, 27, 182, 0, 140, 182, 1, 43, 172]
abbrev dktX2_pins_1 : List UInt8 := dkwX2_pins_1 ++ []
def dkwX2_pins_0 : List UInt8 := [42, 27, 182, 1, 37, 77, 44, 180, 0, 177, 154, 0, 7, 4, 167, 0, 4, 3, 7, 44, 180, 1, 40]
abbrev dktX2_pins_0 : List UInt8 := dkwX2_pins_0 ++ dktX2_pins_1
theorem dksX2_pins_0 : cX2_pins.data.toList.drop 0 = dktX2_pins_0 := by decide +kernel
theorem dksX2_pins_1 : cX2_pins.data.toList.drop 23 = dktX2_pins_1 := dk_seg dksX2_pins_0 23 rfl rfl
theorem dX2_pins_0 : decode cX2_pins 0 = .ok (.aload_n 0, 1) := dk_42 (dk_at dksX2_pins_0 0 rfl rfl)
theorem dX2_pins_1 : decode cX2_pins 1 = .ok (.iload_n 1, 1) := dk_27 (dk_at dksX2_pins_0 1 rfl rfl)
theorem dX2_pins_2 : decode cX2_pins 2 = .ok (.invokevirtual 293, 3) := dk_182 1 37 (dk_at dksX2_pins_0 2 rfl rfl)
theorem dX2_pins_5 : decode cX2_pins 5 = .ok (.astore_n 2, 1) := dk_77 (dk_at dksX2_pins_0 5 rfl rfl)
theorem dX2_pins_6 : decode cX2_pins 6 = .ok (.aload_n 2, 1) := dk_44 (dk_at dksX2_pins_0 6 rfl rfl)
theorem dX2_pins_7 : decode cX2_pins 7 = .ok (.getfield 177, 3) := dk_180 0 177 (dk_at dksX2_pins_0 7 rfl rfl)
theorem dX2_pins_10 : decode cX2_pins 10 = .ok (.ifCond .ne 7, 3) := dk_154 0 7 (dk_at dksX2_pins_0 10 rfl rfl)
theorem dX2_pins_13 : decode cX2_pins 13 = .ok (.iconst 1, 1) := dk_4 (dk_at dksX2_pins_0 13 rfl rfl)
theorem dX2_pins_14 : decode cX2_pins 14 = .ok (.goto 4, 3) := dk_167 0 4 (dk_at dksX2_pins_0 14 rfl rfl)
theorem dX2_pins_17 : decode cX2_pins 17 = .ok (.iconst 0, 1) := dk_3 (dk_at dksX2_pins_0 17 rfl rfl)
theorem dX2_pins_18 : decode cX2_pins 18 = .ok (.iconst 4, 1) := dk_7 (dk_at dksX2_pins_0 18 rfl rfl)
theorem dX2_pins_19 : decode cX2_pins 19 = .ok (.aload_n 2, 1) := dk_44 (dk_at dksX2_pins_0 19 rfl rfl)
theorem dX2_pins_20 : decode cX2_pins 20 = .ok (.getfield 296, 3) := dk_180 1 40 (dk_at dksX2_pins_0 20 rfl rfl)
theorem dX2_pins_23 : decode cX2_pins 23 = .ok (.invokestatic 248, 3) := dk_184 0 248 (dk_at dksX2_pins_1 0 rfl rfl)
theorem dX2_pins_26 : decode cX2_pins 26 = .ok (.aload_n 2, 1) := dk_44 (dk_at dksX2_pins_1 3 rfl rfl)
theorem dX2_pins_27 : decode cX2_pins 27 = .ok (.iconst 1, 1) := dk_4 (dk_at dksX2_pins_1 4 rfl rfl)
theorem dX2_pins_28 : decode cX2_pins 28 = .ok (.putfield 177, 3) := dk_181 0 177 (dk_at dksX2_pins_1 5 rfl rfl)
theorem dX2_pins_31 : decode cX2_pins 31 = .ok (.aload_n 0, 1) := dk_42 (dk_at dksX2_pins_1 8 rfl rfl)
theorem dX2_pins_32 : decode cX2_pins 32 = .ok (.aload_n 0, 1) := dk_42 (dk_at dksX2_pins_1 9 rfl rfl)
theorem dX2_pins_33 : decode cX2_pins 33 = .ok (.iload_n 1, 1) := dk_27 (dk_at dksX2_pins_1 10 rfl rfl)
theorem dX2_pins_34 : decode cX2_pins 34 = .ok (.invokevirtual 140, 3) := dk_182 0 140 (dk_at dksX2_pins_1 11 rfl rfl)
theorem dX2_pins_37 : decode cX2_pins 37 = .ok (.invokevirtual 299, 3) := dk_182 1 43 (dk_at dksX2_pins_1 14 rfl rfl)
theorem dX2_pins_40 : decode cX2_pins 40 = .ok (.ireturn, 1) := dk_172 (dk_at dksX2_pins_1 17 rfl rfl)
abbrev cX2_checkHeld : ByteArray := prog_9_method_27_code
def yX2_checkHeld : MethodName := ⟨RX2, "checkHeld", "(I)LWordCache$Line;"⟩
def dkwX2_checkHeld_1 : List UInt8 := [184, 0, 248, 44, 176]
abbrev dktX2_checkHeld_1 : List UInt8 := dkwX2_checkHeld_1 ++ []
def dkwX2_checkHeld_0 : List UInt8 := [27, 3, 16, 15, 184, 1, 33, 42, 27, 182, 0, 187, 77, 44, 198, 0, 7, 4, 167, 0, 4, 3, 6, 27]
abbrev dktX2_checkHeld_0 : List UInt8 := dkwX2_checkHeld_0 ++ dktX2_checkHeld_1
theorem dksX2_checkHeld_0 : cX2_checkHeld.data.toList.drop 0 = dktX2_checkHeld_0 := by decide +kernel
theorem dksX2_checkHeld_1 : cX2_checkHeld.data.toList.drop 24 = dktX2_checkHeld_1 := dk_seg dksX2_checkHeld_0 24 rfl rfl
theorem dX2_checkHeld_0 : decode cX2_checkHeld 0 = .ok (.iload_n 1, 1) := dk_27 (dk_at dksX2_checkHeld_0 0 rfl rfl)
theorem dX2_checkHeld_1 : decode cX2_checkHeld 1 = .ok (.iconst 0, 1) := dk_3 (dk_at dksX2_checkHeld_0 1 rfl rfl)
theorem dX2_checkHeld_2 : decode cX2_checkHeld 2 = .ok (.bipush 15, 2) := dk_16 15 (dk_at dksX2_checkHeld_0 2 rfl rfl)
theorem dX2_checkHeld_4 : decode cX2_checkHeld 4 = .ok (.invokestatic 289, 3) := dk_184 1 33 (dk_at dksX2_checkHeld_0 4 rfl rfl)
theorem dX2_checkHeld_7 : decode cX2_checkHeld 7 = .ok (.aload_n 0, 1) := dk_42 (dk_at dksX2_checkHeld_0 7 rfl rfl)
theorem dX2_checkHeld_8 : decode cX2_checkHeld 8 = .ok (.iload_n 1, 1) := dk_27 (dk_at dksX2_checkHeld_0 8 rfl rfl)
theorem dX2_checkHeld_9 : decode cX2_checkHeld 9 = .ok (.invokevirtual 187, 3) := dk_182 0 187 (dk_at dksX2_checkHeld_0 9 rfl rfl)
theorem dX2_checkHeld_12 : decode cX2_checkHeld 12 = .ok (.astore_n 2, 1) := dk_77 (dk_at dksX2_checkHeld_0 12 rfl rfl)
theorem dX2_checkHeld_13 : decode cX2_checkHeld 13 = .ok (.aload_n 2, 1) := dk_44 (dk_at dksX2_checkHeld_0 13 rfl rfl)
theorem dX2_checkHeld_14 : decode cX2_checkHeld 14 = .ok (.ifnull 7, 3) := dk_198 0 7 (dk_at dksX2_checkHeld_0 14 rfl rfl)
theorem dX2_checkHeld_17 : decode cX2_checkHeld 17 = .ok (.iconst 1, 1) := dk_4 (dk_at dksX2_checkHeld_0 17 rfl rfl)
theorem dX2_checkHeld_18 : decode cX2_checkHeld 18 = .ok (.goto 4, 3) := dk_167 0 4 (dk_at dksX2_checkHeld_0 18 rfl rfl)
theorem dX2_checkHeld_21 : decode cX2_checkHeld 21 = .ok (.iconst 0, 1) := dk_3 (dk_at dksX2_checkHeld_0 21 rfl rfl)
theorem dX2_checkHeld_22 : decode cX2_checkHeld 22 = .ok (.iconst 3, 1) := dk_6 (dk_at dksX2_checkHeld_0 22 rfl rfl)
theorem dX2_checkHeld_23 : decode cX2_checkHeld 23 = .ok (.iload_n 1, 1) := dk_27 (dk_at dksX2_checkHeld_0 23 rfl rfl)
theorem dX2_checkHeld_24 : decode cX2_checkHeld 24 = .ok (.invokestatic 248, 3) := dk_184 0 248 (dk_at dksX2_checkHeld_1 0 rfl rfl)
theorem dX2_checkHeld_27 : decode cX2_checkHeld 27 = .ok (.aload_n 2, 1) := dk_44 (dk_at dksX2_checkHeld_1 3 rfl rfl)
theorem dX2_checkHeld_28 : decode cX2_checkHeld 28 = .ok (.areturn, 1) := dk_176 (dk_at dksX2_checkHeld_1 4 rfl rfl)
abbrev cX2_pinned : ByteArray := prog_9_method_9_code
def yX2_pinned : MethodName := ⟨RX2, "pinned", "(I)I"⟩
def dkwX2_pinned_2 : List UInt8 := [180, 0, 177, 153, 0, 7, 4, 167, 0, 4, 3, 96, 61, 167, 255, 220, 28, 172]
abbrev dktX2_pinned_2 : List UInt8 := dkwX2_pinned_2 ++ []
def dkwX2_pinned_1 : List UInt8 := [185, 0, 68, 1, 0, 153, 0, 33, 45, 185, 0, 74, 1, 0, 192, 0, 78, 58, 4, 28, 25, 4]
abbrev dktX2_pinned_1 : List UInt8 := dkwX2_pinned_1 ++ dktX2_pinned_2
def dkwX2_pinned_0 : List UInt8 := [3, 61, 42, 180, 0, 25, 27, 185, 0, 144, 2, 0, 192, 0, 63, 185, 0, 62, 1, 0, 78, 45]
abbrev dktX2_pinned_0 : List UInt8 := dkwX2_pinned_0 ++ dktX2_pinned_1
theorem dksX2_pinned_0 : cX2_pinned.data.toList.drop 0 = dktX2_pinned_0 := by decide +kernel
theorem dksX2_pinned_1 : cX2_pinned.data.toList.drop 22 = dktX2_pinned_1 := dk_seg dksX2_pinned_0 22 rfl rfl
theorem dksX2_pinned_2 : cX2_pinned.data.toList.drop 44 = dktX2_pinned_2 := dk_seg dksX2_pinned_1 22 rfl rfl
theorem dX2_pinned_0 : decode cX2_pinned 0 = .ok (.iconst 0, 1) := dk_3 (dk_at dksX2_pinned_0 0 rfl rfl)
theorem dX2_pinned_1 : decode cX2_pinned 1 = .ok (.istore_n 2, 1) := dk_61 (dk_at dksX2_pinned_0 1 rfl rfl)
theorem dX2_pinned_2 : decode cX2_pinned 2 = .ok (.aload_n 0, 1) := dk_42 (dk_at dksX2_pinned_0 2 rfl rfl)
theorem dX2_pinned_3 : decode cX2_pinned 3 = .ok (.getfield 25, 3) := dk_180 0 25 (dk_at dksX2_pinned_0 3 rfl rfl)
theorem dX2_pinned_6 : decode cX2_pinned 6 = .ok (.iload_n 1, 1) := dk_27 (dk_at dksX2_pinned_0 6 rfl rfl)
theorem dX2_pinned_7 : decode cX2_pinned 7 = .ok (.invokeinterface 144 2, 5) := by decide +kernel
theorem dX2_pinned_12 : decode cX2_pinned 12 = .ok (.checkcast 63, 3) := dk_192 0 63 (dk_at dksX2_pinned_0 12 rfl rfl)
theorem dX2_pinned_15 : decode cX2_pinned 15 = .ok (.invokeinterface 62 1, 5) := by decide +kernel
theorem dX2_pinned_20 : decode cX2_pinned 20 = .ok (.astore_n 3, 1) := dk_78 (dk_at dksX2_pinned_0 20 rfl rfl)
theorem dX2_pinned_21 : decode cX2_pinned 21 = .ok (.aload_n 3, 1) := dk_45 (dk_at dksX2_pinned_0 21 rfl rfl)
theorem dX2_pinned_22 : decode cX2_pinned 22 = .ok (.invokeinterface 68 1, 5) := by decide +kernel
theorem dX2_pinned_27 : decode cX2_pinned 27 = .ok (.ifCond .eq 33, 3) := dk_153 0 33 (dk_at dksX2_pinned_1 5 rfl rfl)
theorem dX2_pinned_30 : decode cX2_pinned 30 = .ok (.aload_n 3, 1) := dk_45 (dk_at dksX2_pinned_1 8 rfl rfl)
theorem dX2_pinned_31 : decode cX2_pinned 31 = .ok (.invokeinterface 74 1, 5) := by decide +kernel
theorem dX2_pinned_36 : decode cX2_pinned 36 = .ok (.checkcast 78, 3) := dk_192 0 78 (dk_at dksX2_pinned_1 14 rfl rfl)
theorem dX2_pinned_39 : decode cX2_pinned 39 = .ok (.astore 4, 2) := dk_58 4 (dk_at dksX2_pinned_1 17 rfl rfl)
theorem dX2_pinned_41 : decode cX2_pinned 41 = .ok (.iload_n 2, 1) := dk_28 (dk_at dksX2_pinned_1 19 rfl rfl)
theorem dX2_pinned_42 : decode cX2_pinned 42 = .ok (.aload 4, 2) := dk_25 4 (dk_at dksX2_pinned_1 20 rfl rfl)
theorem dX2_pinned_44 : decode cX2_pinned 44 = .ok (.getfield 177, 3) := dk_180 0 177 (dk_at dksX2_pinned_2 0 rfl rfl)
theorem dX2_pinned_47 : decode cX2_pinned 47 = .ok (.ifCond .eq 7, 3) := dk_153 0 7 (dk_at dksX2_pinned_2 3 rfl rfl)
theorem dX2_pinned_50 : decode cX2_pinned 50 = .ok (.iconst 1, 1) := dk_4 (dk_at dksX2_pinned_2 6 rfl rfl)
theorem dX2_pinned_51 : decode cX2_pinned 51 = .ok (.goto 4, 3) := dk_167 0 4 (dk_at dksX2_pinned_2 7 rfl rfl)
theorem dX2_pinned_54 : decode cX2_pinned 54 = .ok (.iconst 0, 1) := dk_3 (dk_at dksX2_pinned_2 10 rfl rfl)
theorem dX2_pinned_55 : decode cX2_pinned 55 = .ok (.iadd, 1) := dk_96 (dk_at dksX2_pinned_2 11 rfl rfl)
theorem dX2_pinned_56 : decode cX2_pinned 56 = .ok (.istore_n 2, 1) := dk_61 (dk_at dksX2_pinned_2 12 rfl rfl)
theorem dX2_pinned_57 : decode cX2_pinned 57 = .ok (.goto (-36), 3) := dk_167 255 220 (dk_at dksX2_pinned_2 13 rfl rfl)
theorem dX2_pinned_60 : decode cX2_pinned 60 = .ok (.iload_n 2, 1) := dk_28 (dk_at dksX2_pinned_2 16 rfl rfl)
theorem dX2_pinned_61 : decode cX2_pinned 61 = .ok (.ireturn, 1) := dk_172 (dk_at dksX2_pinned_2 17 rfl rfl)
abbrev cX2_frees : ByteArray := prog_9_method_29_code
def yX2_frees : MethodName := ⟨RX2, "frees", "(I)I"⟩
def dkwX2_frees_1 : List UInt8 := [42, 27, 182, 0, 140, 182, 1, 43, 172]
abbrev dktX2_frees_1 : List UInt8 := dkwX2_frees_1 ++ []
def dkwX2_frees_0 : List UInt8 := [42, 27, 182, 1, 37, 77, 44, 180, 0, 177, 8, 44, 180, 1, 40, 184, 0, 248, 44, 3, 181, 0, 177, 42]
abbrev dktX2_frees_0 : List UInt8 := dkwX2_frees_0 ++ dktX2_frees_1
theorem dksX2_frees_0 : cX2_frees.data.toList.drop 0 = dktX2_frees_0 := by decide +kernel
theorem dksX2_frees_1 : cX2_frees.data.toList.drop 24 = dktX2_frees_1 := dk_seg dksX2_frees_0 24 rfl rfl
theorem dX2_frees_0 : decode cX2_frees 0 = .ok (.aload_n 0, 1) := dk_42 (dk_at dksX2_frees_0 0 rfl rfl)
theorem dX2_frees_1 : decode cX2_frees 1 = .ok (.iload_n 1, 1) := dk_27 (dk_at dksX2_frees_0 1 rfl rfl)
theorem dX2_frees_2 : decode cX2_frees 2 = .ok (.invokevirtual 293, 3) := dk_182 1 37 (dk_at dksX2_frees_0 2 rfl rfl)
theorem dX2_frees_5 : decode cX2_frees 5 = .ok (.astore_n 2, 1) := dk_77 (dk_at dksX2_frees_0 5 rfl rfl)
theorem dX2_frees_6 : decode cX2_frees 6 = .ok (.aload_n 2, 1) := dk_44 (dk_at dksX2_frees_0 6 rfl rfl)
theorem dX2_frees_7 : decode cX2_frees 7 = .ok (.getfield 177, 3) := dk_180 0 177 (dk_at dksX2_frees_0 7 rfl rfl)
theorem dX2_frees_10 : decode cX2_frees 10 = .ok (.iconst 5, 1) := dk_8 (dk_at dksX2_frees_0 10 rfl rfl)
theorem dX2_frees_11 : decode cX2_frees 11 = .ok (.aload_n 2, 1) := dk_44 (dk_at dksX2_frees_0 11 rfl rfl)
theorem dX2_frees_12 : decode cX2_frees 12 = .ok (.getfield 296, 3) := dk_180 1 40 (dk_at dksX2_frees_0 12 rfl rfl)
theorem dX2_frees_15 : decode cX2_frees 15 = .ok (.invokestatic 248, 3) := dk_184 0 248 (dk_at dksX2_frees_0 15 rfl rfl)
theorem dX2_frees_18 : decode cX2_frees 18 = .ok (.aload_n 2, 1) := dk_44 (dk_at dksX2_frees_0 18 rfl rfl)
theorem dX2_frees_19 : decode cX2_frees 19 = .ok (.iconst 0, 1) := dk_3 (dk_at dksX2_frees_0 19 rfl rfl)
theorem dX2_frees_20 : decode cX2_frees 20 = .ok (.putfield 177, 3) := dk_181 0 177 (dk_at dksX2_frees_0 20 rfl rfl)
theorem dX2_frees_23 : decode cX2_frees 23 = .ok (.aload_n 0, 1) := dk_42 (dk_at dksX2_frees_0 23 rfl rfl)
theorem dX2_frees_24 : decode cX2_frees 24 = .ok (.aload_n 0, 1) := dk_42 (dk_at dksX2_frees_1 0 rfl rfl)
theorem dX2_frees_25 : decode cX2_frees 25 = .ok (.iload_n 1, 1) := dk_27 (dk_at dksX2_frees_1 1 rfl rfl)
theorem dX2_frees_26 : decode cX2_frees 26 = .ok (.invokevirtual 140, 3) := dk_182 0 140 (dk_at dksX2_frees_1 2 rfl rfl)
theorem dX2_frees_29 : decode cX2_frees 29 = .ok (.invokevirtual 299, 3) := dk_182 1 43 (dk_at dksX2_frees_1 5 rfl rfl)
theorem dX2_frees_32 : decode cX2_frees 32 = .ok (.ireturn, 1) := dk_172 (dk_at dksX2_frees_1 8 rfl rfl)
abbrev cX2_flushes : ByteArray := prog_9_method_30_code
def yX2_flushes : MethodName := ⟨RX2, "flushes", "()I"⟩
def dkwX2_flushes_0 : List UInt8 := [42, 182, 1, 46, 158, 0, 7, 4, 167, 0, 4, 3, 16, 6, 3, 184, 0, 248, 42, 182, 1, 47, 172]
abbrev dktX2_flushes_0 : List UInt8 := dkwX2_flushes_0 ++ []
theorem dksX2_flushes_0 : cX2_flushes.data.toList.drop 0 = dktX2_flushes_0 := by decide +kernel
theorem dX2_flushes_0 : decode cX2_flushes 0 = .ok (.aload_n 0, 1) := dk_42 (dk_at dksX2_flushes_0 0 rfl rfl)
theorem dX2_flushes_1 : decode cX2_flushes 1 = .ok (.invokevirtual 302, 3) := dk_182 1 46 (dk_at dksX2_flushes_0 1 rfl rfl)
theorem dX2_flushes_4 : decode cX2_flushes 4 = .ok (.ifCond .le 7, 3) := dk_158 0 7 (dk_at dksX2_flushes_0 4 rfl rfl)
theorem dX2_flushes_7 : decode cX2_flushes 7 = .ok (.iconst 1, 1) := dk_4 (dk_at dksX2_flushes_0 7 rfl rfl)
theorem dX2_flushes_8 : decode cX2_flushes 8 = .ok (.goto 4, 3) := dk_167 0 4 (dk_at dksX2_flushes_0 8 rfl rfl)
theorem dX2_flushes_11 : decode cX2_flushes 11 = .ok (.iconst 0, 1) := dk_3 (dk_at dksX2_flushes_0 11 rfl rfl)
theorem dX2_flushes_12 : decode cX2_flushes 12 = .ok (.bipush 6, 2) := dk_16 6 (dk_at dksX2_flushes_0 12 rfl rfl)
theorem dX2_flushes_14 : decode cX2_flushes 14 = .ok (.iconst 0, 1) := dk_3 (dk_at dksX2_flushes_0 14 rfl rfl)
theorem dX2_flushes_15 : decode cX2_flushes 15 = .ok (.invokestatic 248, 3) := dk_184 0 248 (dk_at dksX2_flushes_0 15 rfl rfl)
theorem dX2_flushes_18 : decode cX2_flushes 18 = .ok (.aload_n 0, 1) := dk_42 (dk_at dksX2_flushes_0 18 rfl rfl)
theorem dX2_flushes_19 : decode cX2_flushes 19 = .ok (.invokevirtual 303, 3) := dk_182 1 47 (dk_at dksX2_flushes_0 19 rfl rfl)
theorem dX2_flushes_22 : decode cX2_flushes 22 = .ok (.ireturn, 1) := dk_172 (dk_at dksX2_flushes_0 22 rfl rfl)
abbrev cX2_writesAllBack : ByteArray := prog_9_method_17_code
def yX2_writesAllBack : MethodName := ⟨RX2, "writesAllBack", "()I"⟩
def dkwX2_writesAllBack_1 : List UInt8 := [185, 0, 74, 1, 0, 192, 0, 78, 78, 27, 42, 45, 182, 0, 220, 96, 60, 167, 255, 229, 27, 172]
abbrev dktX2_writesAllBack_1 : List UInt8 := dkwX2_writesAllBack_1 ++ []
def dkwX2_writesAllBack_0 : List UInt8 := [3, 60, 42, 182, 0, 180, 185, 0, 62, 1, 0, 77, 44, 185, 0, 68, 1, 0, 153, 0, 24, 44]
abbrev dktX2_writesAllBack_0 : List UInt8 := dkwX2_writesAllBack_0 ++ dktX2_writesAllBack_1
theorem dksX2_writesAllBack_0 : cX2_writesAllBack.data.toList.drop 0 = dktX2_writesAllBack_0 := by decide +kernel
theorem dksX2_writesAllBack_1 : cX2_writesAllBack.data.toList.drop 22 = dktX2_writesAllBack_1 := dk_seg dksX2_writesAllBack_0 22 rfl rfl
theorem dX2_writesAllBack_0 : decode cX2_writesAllBack 0 = .ok (.iconst 0, 1) := dk_3 (dk_at dksX2_writesAllBack_0 0 rfl rfl)
theorem dX2_writesAllBack_1 : decode cX2_writesAllBack 1 = .ok (.istore_n 1, 1) := dk_60 (dk_at dksX2_writesAllBack_0 1 rfl rfl)
theorem dX2_writesAllBack_2 : decode cX2_writesAllBack 2 = .ok (.aload_n 0, 1) := dk_42 (dk_at dksX2_writesAllBack_0 2 rfl rfl)
theorem dX2_writesAllBack_3 : decode cX2_writesAllBack 3 = .ok (.invokevirtual 180, 3) := dk_182 0 180 (dk_at dksX2_writesAllBack_0 3 rfl rfl)
theorem dX2_writesAllBack_6 : decode cX2_writesAllBack 6 = .ok (.invokeinterface 62 1, 5) := by decide +kernel
theorem dX2_writesAllBack_11 : decode cX2_writesAllBack 11 = .ok (.astore_n 2, 1) := dk_77 (dk_at dksX2_writesAllBack_0 11 rfl rfl)
theorem dX2_writesAllBack_12 : decode cX2_writesAllBack 12 = .ok (.aload_n 2, 1) := dk_44 (dk_at dksX2_writesAllBack_0 12 rfl rfl)
theorem dX2_writesAllBack_13 : decode cX2_writesAllBack 13 = .ok (.invokeinterface 68 1, 5) := by decide +kernel
theorem dX2_writesAllBack_18 : decode cX2_writesAllBack 18 = .ok (.ifCond .eq 24, 3) := dk_153 0 24 (dk_at dksX2_writesAllBack_0 18 rfl rfl)
theorem dX2_writesAllBack_21 : decode cX2_writesAllBack 21 = .ok (.aload_n 2, 1) := dk_44 (dk_at dksX2_writesAllBack_0 21 rfl rfl)
theorem dX2_writesAllBack_22 : decode cX2_writesAllBack 22 = .ok (.invokeinterface 74 1, 5) := by decide +kernel
theorem dX2_writesAllBack_27 : decode cX2_writesAllBack 27 = .ok (.checkcast 78, 3) := dk_192 0 78 (dk_at dksX2_writesAllBack_1 5 rfl rfl)
theorem dX2_writesAllBack_30 : decode cX2_writesAllBack 30 = .ok (.astore_n 3, 1) := dk_78 (dk_at dksX2_writesAllBack_1 8 rfl rfl)
theorem dX2_writesAllBack_31 : decode cX2_writesAllBack 31 = .ok (.iload_n 1, 1) := dk_27 (dk_at dksX2_writesAllBack_1 9 rfl rfl)
theorem dX2_writesAllBack_32 : decode cX2_writesAllBack 32 = .ok (.aload_n 0, 1) := dk_42 (dk_at dksX2_writesAllBack_1 10 rfl rfl)
theorem dX2_writesAllBack_33 : decode cX2_writesAllBack 33 = .ok (.aload_n 3, 1) := dk_45 (dk_at dksX2_writesAllBack_1 11 rfl rfl)
theorem dX2_writesAllBack_34 : decode cX2_writesAllBack 34 = .ok (.invokevirtual 220, 3) := dk_182 0 220 (dk_at dksX2_writesAllBack_1 12 rfl rfl)
theorem dX2_writesAllBack_37 : decode cX2_writesAllBack 37 = .ok (.iadd, 1) := dk_96 (dk_at dksX2_writesAllBack_1 15 rfl rfl)
theorem dX2_writesAllBack_38 : decode cX2_writesAllBack 38 = .ok (.istore_n 1, 1) := dk_60 (dk_at dksX2_writesAllBack_1 16 rfl rfl)
theorem dX2_writesAllBack_39 : decode cX2_writesAllBack 39 = .ok (.goto (-27), 3) := dk_167 255 229 (dk_at dksX2_writesAllBack_1 17 rfl rfl)
theorem dX2_writesAllBack_42 : decode cX2_writesAllBack 42 = .ok (.iload_n 1, 1) := dk_27 (dk_at dksX2_writesAllBack_1 20 rfl rfl)
theorem dX2_writesAllBack_43 : decode cX2_writesAllBack 43 = .ok (.ireturn, 1) := dk_172 (dk_at dksX2_writesAllBack_1 21 rfl rfl)
abbrev cX2_deviceWrites : ByteArray := prog_9_method_25_code
def yX2_deviceWrites : MethodName := ⟨RX2, "deviceWrites", "(II)I"⟩
def dkwX2_deviceWrites_2 : List UInt8 := [184, 0, 223, 28, 184, 0, 223, 182, 1, 18, 87, 42, 89, 180, 0, 126, 4, 96, 181, 0, 126, 21, 4, 172]
abbrev dktX2_deviceWrites_2 : List UInt8 := dkwX2_deviceWrites_2 ++ []
def dkwX2_deviceWrites_1 : List UInt8 := [45, 182, 0, 220, 54, 4, 45, 182, 1, 30, 42, 180, 0, 9, 27, 28, 79, 42, 180, 0, 18, 27]
abbrev dktX2_deviceWrites_1 : List UInt8 := dkwX2_deviceWrites_1 ++ dktX2_deviceWrites_2
def dkwX2_deviceWrites_0 : List UInt8 := [27, 184, 1, 6, 28, 184, 1, 11, 42, 27, 7, 108, 182, 0, 187, 78, 3, 54, 4, 45, 198, 0, 14, 42]
abbrev dktX2_deviceWrites_0 : List UInt8 := dkwX2_deviceWrites_0 ++ dktX2_deviceWrites_1
theorem dksX2_deviceWrites_0 : cX2_deviceWrites.data.toList.drop 0 = dktX2_deviceWrites_0 := by decide +kernel
theorem dksX2_deviceWrites_1 : cX2_deviceWrites.data.toList.drop 24 = dktX2_deviceWrites_1 := dk_seg dksX2_deviceWrites_0 24 rfl rfl
theorem dksX2_deviceWrites_2 : cX2_deviceWrites.data.toList.drop 46 = dktX2_deviceWrites_2 := dk_seg dksX2_deviceWrites_1 22 rfl rfl
theorem dX2_deviceWrites_0 : decode cX2_deviceWrites 0 = .ok (.iload_n 1, 1) := dk_27 (dk_at dksX2_deviceWrites_0 0 rfl rfl)
theorem dX2_deviceWrites_1 : decode cX2_deviceWrites 1 = .ok (.invokestatic 262, 3) := dk_184 1 6 (dk_at dksX2_deviceWrites_0 1 rfl rfl)
theorem dX2_deviceWrites_4 : decode cX2_deviceWrites 4 = .ok (.iload_n 2, 1) := dk_28 (dk_at dksX2_deviceWrites_0 4 rfl rfl)
theorem dX2_deviceWrites_5 : decode cX2_deviceWrites 5 = .ok (.invokestatic 267, 3) := dk_184 1 11 (dk_at dksX2_deviceWrites_0 5 rfl rfl)
theorem dX2_deviceWrites_8 : decode cX2_deviceWrites 8 = .ok (.aload_n 0, 1) := dk_42 (dk_at dksX2_deviceWrites_0 8 rfl rfl)
theorem dX2_deviceWrites_9 : decode cX2_deviceWrites 9 = .ok (.iload_n 1, 1) := dk_27 (dk_at dksX2_deviceWrites_0 9 rfl rfl)
theorem dX2_deviceWrites_10 : decode cX2_deviceWrites 10 = .ok (.iconst 4, 1) := dk_7 (dk_at dksX2_deviceWrites_0 10 rfl rfl)
theorem dX2_deviceWrites_11 : decode cX2_deviceWrites 11 = .ok (.idiv, 1) := dk_108 (dk_at dksX2_deviceWrites_0 11 rfl rfl)
theorem dX2_deviceWrites_12 : decode cX2_deviceWrites 12 = .ok (.invokevirtual 187, 3) := dk_182 0 187 (dk_at dksX2_deviceWrites_0 12 rfl rfl)
theorem dX2_deviceWrites_15 : decode cX2_deviceWrites 15 = .ok (.astore_n 3, 1) := dk_78 (dk_at dksX2_deviceWrites_0 15 rfl rfl)
theorem dX2_deviceWrites_16 : decode cX2_deviceWrites 16 = .ok (.iconst 0, 1) := dk_3 (dk_at dksX2_deviceWrites_0 16 rfl rfl)
theorem dX2_deviceWrites_17 : decode cX2_deviceWrites 17 = .ok (.istore 4, 2) := dk_54 4 (dk_at dksX2_deviceWrites_0 17 rfl rfl)
theorem dX2_deviceWrites_19 : decode cX2_deviceWrites 19 = .ok (.aload_n 3, 1) := dk_45 (dk_at dksX2_deviceWrites_0 19 rfl rfl)
theorem dX2_deviceWrites_20 : decode cX2_deviceWrites 20 = .ok (.ifnull 14, 3) := dk_198 0 14 (dk_at dksX2_deviceWrites_0 20 rfl rfl)
theorem dX2_deviceWrites_23 : decode cX2_deviceWrites 23 = .ok (.aload_n 0, 1) := dk_42 (dk_at dksX2_deviceWrites_0 23 rfl rfl)
theorem dX2_deviceWrites_24 : decode cX2_deviceWrites 24 = .ok (.aload_n 3, 1) := dk_45 (dk_at dksX2_deviceWrites_1 0 rfl rfl)
theorem dX2_deviceWrites_25 : decode cX2_deviceWrites 25 = .ok (.invokevirtual 220, 3) := dk_182 0 220 (dk_at dksX2_deviceWrites_1 1 rfl rfl)
theorem dX2_deviceWrites_28 : decode cX2_deviceWrites 28 = .ok (.istore 4, 2) := dk_54 4 (dk_at dksX2_deviceWrites_1 4 rfl rfl)
theorem dX2_deviceWrites_30 : decode cX2_deviceWrites 30 = .ok (.aload_n 3, 1) := dk_45 (dk_at dksX2_deviceWrites_1 6 rfl rfl)
theorem dX2_deviceWrites_31 : decode cX2_deviceWrites 31 = .ok (.invokevirtual 286, 3) := dk_182 1 30 (dk_at dksX2_deviceWrites_1 7 rfl rfl)
theorem dX2_deviceWrites_34 : decode cX2_deviceWrites 34 = .ok (.aload_n 0, 1) := dk_42 (dk_at dksX2_deviceWrites_1 10 rfl rfl)
theorem dX2_deviceWrites_35 : decode cX2_deviceWrites 35 = .ok (.getfield 9, 3) := dk_180 0 9 (dk_at dksX2_deviceWrites_1 11 rfl rfl)
theorem dX2_deviceWrites_38 : decode cX2_deviceWrites 38 = .ok (.iload_n 1, 1) := dk_27 (dk_at dksX2_deviceWrites_1 14 rfl rfl)
theorem dX2_deviceWrites_39 : decode cX2_deviceWrites 39 = .ok (.iload_n 2, 1) := dk_28 (dk_at dksX2_deviceWrites_1 15 rfl rfl)
theorem dX2_deviceWrites_40 : decode cX2_deviceWrites 40 = .ok (.iastore, 1) := dk_79 (dk_at dksX2_deviceWrites_1 16 rfl rfl)
theorem dX2_deviceWrites_41 : decode cX2_deviceWrites 41 = .ok (.aload_n 0, 1) := dk_42 (dk_at dksX2_deviceWrites_1 17 rfl rfl)
theorem dX2_deviceWrites_42 : decode cX2_deviceWrites 42 = .ok (.getfield 18, 3) := dk_180 0 18 (dk_at dksX2_deviceWrites_1 18 rfl rfl)
theorem dX2_deviceWrites_45 : decode cX2_deviceWrites 45 = .ok (.iload_n 1, 1) := dk_27 (dk_at dksX2_deviceWrites_1 21 rfl rfl)
theorem dX2_deviceWrites_46 : decode cX2_deviceWrites 46 = .ok (.invokestatic 223, 3) := dk_184 0 223 (dk_at dksX2_deviceWrites_2 0 rfl rfl)
theorem dX2_deviceWrites_49 : decode cX2_deviceWrites 49 = .ok (.iload_n 2, 1) := dk_28 (dk_at dksX2_deviceWrites_2 3 rfl rfl)
theorem dX2_deviceWrites_50 : decode cX2_deviceWrites 50 = .ok (.invokestatic 223, 3) := dk_184 0 223 (dk_at dksX2_deviceWrites_2 4 rfl rfl)
theorem dX2_deviceWrites_53 : decode cX2_deviceWrites 53 = .ok (.invokevirtual 274, 3) := dk_182 1 18 (dk_at dksX2_deviceWrites_2 7 rfl rfl)
theorem dX2_deviceWrites_56 : decode cX2_deviceWrites 56 = .ok (.pop, 1) := dk_87 (dk_at dksX2_deviceWrites_2 10 rfl rfl)
theorem dX2_deviceWrites_57 : decode cX2_deviceWrites 57 = .ok (.aload_n 0, 1) := dk_42 (dk_at dksX2_deviceWrites_2 11 rfl rfl)
theorem dX2_deviceWrites_58 : decode cX2_deviceWrites 58 = .ok (.dup, 1) := dk_89 (dk_at dksX2_deviceWrites_2 12 rfl rfl)
theorem dX2_deviceWrites_59 : decode cX2_deviceWrites 59 = .ok (.getfield 126, 3) := dk_180 0 126 (dk_at dksX2_deviceWrites_2 13 rfl rfl)
theorem dX2_deviceWrites_62 : decode cX2_deviceWrites 62 = .ok (.iconst 1, 1) := dk_4 (dk_at dksX2_deviceWrites_2 16 rfl rfl)
theorem dX2_deviceWrites_63 : decode cX2_deviceWrites 63 = .ok (.iadd, 1) := dk_96 (dk_at dksX2_deviceWrites_2 17 rfl rfl)
theorem dX2_deviceWrites_64 : decode cX2_deviceWrites 64 = .ok (.putfield 126, 3) := dk_181 0 126 (dk_at dksX2_deviceWrites_2 18 rfl rfl)
theorem dX2_deviceWrites_67 : decode cX2_deviceWrites 67 = .ok (.iload 4, 2) := dk_21 4 (dk_at dksX2_deviceWrites_2 21 rfl rfl)
theorem dX2_deviceWrites_69 : decode cX2_deviceWrites 69 = .ok (.ireturn, 1) := dk_172 (dk_at dksX2_deviceWrites_2 23 rfl rfl)
abbrev cX2_waits : ByteArray := prog_9_method_26_code
def yX2_waits : MethodName := ⟨RX2, "waits", "(I)I"⟩
def dkwX2_waits_0 : List UInt8 := [27, 4, 16, 99, 184, 1, 33, 42, 89, 180, 0, 98, 27, 96, 181, 0, 98, 42, 180, 0, 98, 172]
abbrev dktX2_waits_0 : List UInt8 := dkwX2_waits_0 ++ []
theorem dksX2_waits_0 : cX2_waits.data.toList.drop 0 = dktX2_waits_0 := by decide +kernel
theorem dX2_waits_0 : decode cX2_waits 0 = .ok (.iload_n 1, 1) := dk_27 (dk_at dksX2_waits_0 0 rfl rfl)
theorem dX2_waits_1 : decode cX2_waits 1 = .ok (.iconst 1, 1) := dk_4 (dk_at dksX2_waits_0 1 rfl rfl)
theorem dX2_waits_2 : decode cX2_waits 2 = .ok (.bipush 99, 2) := dk_16 99 (dk_at dksX2_waits_0 2 rfl rfl)
theorem dX2_waits_4 : decode cX2_waits 4 = .ok (.invokestatic 289, 3) := dk_184 1 33 (dk_at dksX2_waits_0 4 rfl rfl)
theorem dX2_waits_7 : decode cX2_waits 7 = .ok (.aload_n 0, 1) := dk_42 (dk_at dksX2_waits_0 7 rfl rfl)
theorem dX2_waits_8 : decode cX2_waits 8 = .ok (.dup, 1) := dk_89 (dk_at dksX2_waits_0 8 rfl rfl)
theorem dX2_waits_9 : decode cX2_waits 9 = .ok (.getfield 98, 3) := dk_180 0 98 (dk_at dksX2_waits_0 9 rfl rfl)
theorem dX2_waits_12 : decode cX2_waits 12 = .ok (.iload_n 1, 1) := dk_27 (dk_at dksX2_waits_0 12 rfl rfl)
theorem dX2_waits_13 : decode cX2_waits 13 = .ok (.iadd, 1) := dk_96 (dk_at dksX2_waits_0 13 rfl rfl)
theorem dX2_waits_14 : decode cX2_waits 14 = .ok (.putfield 98, 3) := dk_181 0 98 (dk_at dksX2_waits_0 14 rfl rfl)
theorem dX2_waits_17 : decode cX2_waits 17 = .ok (.aload_n 0, 1) := dk_42 (dk_at dksX2_waits_0 17 rfl rfl)
theorem dX2_waits_18 : decode cX2_waits 18 = .ok (.getfield 98, 3) := dk_180 0 98 (dk_at dksX2_waits_0 18 rfl rfl)
theorem dX2_waits_21 : decode cX2_waits 21 = .ok (.ireturn, 1) := dk_172 (dk_at dksX2_waits_0 21 rfl rfl)
abbrev cX2_shapes : ByteArray := prog_9_method_31_code
def yX2_shapes : MethodName := ⟨RX2, "shapes", "(II)I"⟩
def dkwX2_shapes_1 : List UInt8 := [172]
abbrev dktX2_shapes_1 : List UInt8 := dkwX2_shapes_1 ++ []
def dkwX2_shapes_0 : List UInt8 := [27, 4, 7, 184, 1, 33, 28, 4, 7, 184, 1, 33, 42, 182, 1, 47, 62, 42, 27, 28, 182, 0, 48, 29]
abbrev dktX2_shapes_0 : List UInt8 := dkwX2_shapes_0 ++ dktX2_shapes_1
theorem dksX2_shapes_0 : cX2_shapes.data.toList.drop 0 = dktX2_shapes_0 := by decide +kernel
theorem dksX2_shapes_1 : cX2_shapes.data.toList.drop 24 = dktX2_shapes_1 := dk_seg dksX2_shapes_0 24 rfl rfl
theorem dX2_shapes_0 : decode cX2_shapes 0 = .ok (.iload_n 1, 1) := dk_27 (dk_at dksX2_shapes_0 0 rfl rfl)
theorem dX2_shapes_1 : decode cX2_shapes 1 = .ok (.iconst 1, 1) := dk_4 (dk_at dksX2_shapes_0 1 rfl rfl)
theorem dX2_shapes_2 : decode cX2_shapes 2 = .ok (.iconst 4, 1) := dk_7 (dk_at dksX2_shapes_0 2 rfl rfl)
theorem dX2_shapes_3 : decode cX2_shapes 3 = .ok (.invokestatic 289, 3) := dk_184 1 33 (dk_at dksX2_shapes_0 3 rfl rfl)
theorem dX2_shapes_6 : decode cX2_shapes 6 = .ok (.iload_n 2, 1) := dk_28 (dk_at dksX2_shapes_0 6 rfl rfl)
theorem dX2_shapes_7 : decode cX2_shapes 7 = .ok (.iconst 1, 1) := dk_4 (dk_at dksX2_shapes_0 7 rfl rfl)
theorem dX2_shapes_8 : decode cX2_shapes 8 = .ok (.iconst 4, 1) := dk_7 (dk_at dksX2_shapes_0 8 rfl rfl)
theorem dX2_shapes_9 : decode cX2_shapes 9 = .ok (.invokestatic 289, 3) := dk_184 1 33 (dk_at dksX2_shapes_0 9 rfl rfl)
theorem dX2_shapes_12 : decode cX2_shapes 12 = .ok (.aload_n 0, 1) := dk_42 (dk_at dksX2_shapes_0 12 rfl rfl)
theorem dX2_shapes_13 : decode cX2_shapes 13 = .ok (.invokevirtual 303, 3) := dk_182 1 47 (dk_at dksX2_shapes_0 13 rfl rfl)
theorem dX2_shapes_16 : decode cX2_shapes 16 = .ok (.istore_n 3, 1) := dk_62 (dk_at dksX2_shapes_0 16 rfl rfl)
theorem dX2_shapes_17 : decode cX2_shapes 17 = .ok (.aload_n 0, 1) := dk_42 (dk_at dksX2_shapes_0 17 rfl rfl)
theorem dX2_shapes_18 : decode cX2_shapes 18 = .ok (.iload_n 1, 1) := dk_27 (dk_at dksX2_shapes_0 18 rfl rfl)
theorem dX2_shapes_19 : decode cX2_shapes 19 = .ok (.iload_n 2, 1) := dk_28 (dk_at dksX2_shapes_0 19 rfl rfl)
theorem dX2_shapes_20 : decode cX2_shapes 20 = .ok (.invokevirtual 48, 3) := dk_182 0 48 (dk_at dksX2_shapes_0 20 rfl rfl)
theorem dX2_shapes_23 : decode cX2_shapes 23 = .ok (.iload_n 3, 1) := dk_29 (dk_at dksX2_shapes_0 23 rfl rfl)
theorem dX2_shapes_24 : decode cX2_shapes 24 = .ok (.ireturn, 1) := dk_172 (dk_at dksX2_shapes_1 0 rfl rfl)
abbrev cX2_rules : ByteArray := prog_9_method_32_code
def yX2_rules : MethodName := ⟨RX2, "rules", "(I)I"⟩
def dkwX2_rules_0 : List UInt8 := [27, 3, 6, 184, 1, 33, 42, 180, 0, 101, 61, 42, 27, 181, 0, 101, 28, 172]
abbrev dktX2_rules_0 : List UInt8 := dkwX2_rules_0 ++ []
theorem dksX2_rules_0 : cX2_rules.data.toList.drop 0 = dktX2_rules_0 := by decide +kernel
theorem dX2_rules_0 : decode cX2_rules 0 = .ok (.iload_n 1, 1) := dk_27 (dk_at dksX2_rules_0 0 rfl rfl)
theorem dX2_rules_1 : decode cX2_rules 1 = .ok (.iconst 0, 1) := dk_3 (dk_at dksX2_rules_0 1 rfl rfl)
theorem dX2_rules_2 : decode cX2_rules 2 = .ok (.iconst 3, 1) := dk_6 (dk_at dksX2_rules_0 2 rfl rfl)
theorem dX2_rules_3 : decode cX2_rules 3 = .ok (.invokestatic 289, 3) := dk_184 1 33 (dk_at dksX2_rules_0 3 rfl rfl)
theorem dX2_rules_6 : decode cX2_rules 6 = .ok (.aload_n 0, 1) := dk_42 (dk_at dksX2_rules_0 6 rfl rfl)
theorem dX2_rules_7 : decode cX2_rules 7 = .ok (.getfield 101, 3) := dk_180 0 101 (dk_at dksX2_rules_0 7 rfl rfl)
theorem dX2_rules_10 : decode cX2_rules 10 = .ok (.istore_n 2, 1) := dk_61 (dk_at dksX2_rules_0 10 rfl rfl)
theorem dX2_rules_11 : decode cX2_rules 11 = .ok (.aload_n 0, 1) := dk_42 (dk_at dksX2_rules_0 11 rfl rfl)
theorem dX2_rules_12 : decode cX2_rules 12 = .ok (.iload_n 1, 1) := dk_27 (dk_at dksX2_rules_0 12 rfl rfl)
theorem dX2_rules_13 : decode cX2_rules 13 = .ok (.putfield 101, 3) := dk_181 0 101 (dk_at dksX2_rules_0 13 rfl rfl)
theorem dX2_rules_16 : decode cX2_rules 16 = .ok (.iload_n 2, 1) := dk_28 (dk_at dksX2_rules_0 16 rfl rfl)
theorem dX2_rules_17 : decode cX2_rules 17 = .ok (.ireturn, 1) := dk_172 (dk_at dksX2_rules_0 17 rfl rfl)
abbrev cX2_wouldTake : ByteArray := prog_9_method_24_code
def yX2_wouldTake : MethodName := ⟨RX2, "wouldTake", "(I)I"⟩
def dkwX2_wouldTake_1 : List UInt8 := [172, 78, 2, 172]
abbrev dktX2_wouldTake_1 : List UInt8 := dkwX2_wouldTake_1 ++ []
def dkwX2_wouldTake_0 : List UInt8 := [187, 0, 10, 89, 42, 183, 1, 22, 77, 44, 27, 182, 1, 25, 62, 44, 180, 0, 98, 42, 180, 0, 98, 100]
abbrev dktX2_wouldTake_0 : List UInt8 := dkwX2_wouldTake_0 ++ dktX2_wouldTake_1
theorem dksX2_wouldTake_0 : cX2_wouldTake.data.toList.drop 0 = dktX2_wouldTake_0 := by decide +kernel
theorem dksX2_wouldTake_1 : cX2_wouldTake.data.toList.drop 24 = dktX2_wouldTake_1 := dk_seg dksX2_wouldTake_0 24 rfl rfl
theorem dX2_wouldTake_0 : decode cX2_wouldTake 0 = .ok (.new 10, 3) := dk_187 0 10 (dk_at dksX2_wouldTake_0 0 rfl rfl)
theorem dX2_wouldTake_3 : decode cX2_wouldTake 3 = .ok (.dup, 1) := dk_89 (dk_at dksX2_wouldTake_0 3 rfl rfl)
theorem dX2_wouldTake_4 : decode cX2_wouldTake 4 = .ok (.aload_n 0, 1) := dk_42 (dk_at dksX2_wouldTake_0 4 rfl rfl)
theorem dX2_wouldTake_5 : decode cX2_wouldTake 5 = .ok (.invokespecial 278, 3) := dk_183 1 22 (dk_at dksX2_wouldTake_0 5 rfl rfl)
theorem dX2_wouldTake_8 : decode cX2_wouldTake 8 = .ok (.astore_n 2, 1) := dk_77 (dk_at dksX2_wouldTake_0 8 rfl rfl)
theorem dX2_wouldTake_9 : decode cX2_wouldTake 9 = .ok (.aload_n 2, 1) := dk_44 (dk_at dksX2_wouldTake_0 9 rfl rfl)
theorem dX2_wouldTake_10 : decode cX2_wouldTake 10 = .ok (.iload_n 1, 1) := dk_27 (dk_at dksX2_wouldTake_0 10 rfl rfl)
theorem dX2_wouldTake_11 : decode cX2_wouldTake 11 = .ok (.invokevirtual 281, 3) := dk_182 1 25 (dk_at dksX2_wouldTake_0 11 rfl rfl)
theorem dX2_wouldTake_14 : decode cX2_wouldTake 14 = .ok (.istore_n 3, 1) := dk_62 (dk_at dksX2_wouldTake_0 14 rfl rfl)
theorem dX2_wouldTake_15 : decode cX2_wouldTake 15 = .ok (.aload_n 2, 1) := dk_44 (dk_at dksX2_wouldTake_0 15 rfl rfl)
theorem dX2_wouldTake_16 : decode cX2_wouldTake 16 = .ok (.getfield 98, 3) := dk_180 0 98 (dk_at dksX2_wouldTake_0 16 rfl rfl)
theorem dX2_wouldTake_19 : decode cX2_wouldTake 19 = .ok (.aload_n 0, 1) := dk_42 (dk_at dksX2_wouldTake_0 19 rfl rfl)
theorem dX2_wouldTake_20 : decode cX2_wouldTake 20 = .ok (.getfield 98, 3) := dk_180 0 98 (dk_at dksX2_wouldTake_0 20 rfl rfl)
theorem dX2_wouldTake_23 : decode cX2_wouldTake 23 = .ok (.isub, 1) := dk_100 (dk_at dksX2_wouldTake_0 23 rfl rfl)
theorem dX2_wouldTake_24 : decode cX2_wouldTake 24 = .ok (.ireturn, 1) := dk_172 (dk_at dksX2_wouldTake_1 0 rfl rfl)
theorem dX2_wouldTake_25 : decode cX2_wouldTake 25 = .ok (.astore_n 3, 1) := dk_78 (dk_at dksX2_wouldTake_1 1 rfl rfl)
theorem dX2_wouldTake_26 : decode cX2_wouldTake 26 = .ok (.iconst (-1), 1) := dk_2 (dk_at dksX2_wouldTake_1 2 rfl rfl)
theorem dX2_wouldTake_27 : decode cX2_wouldTake 27 = .ok (.ireturn, 1) := dk_172 (dk_at dksX2_wouldTake_1 3 rfl rfl)
abbrev cX2_ranked : ByteArray := prog_9_method_33_code
def yX2_ranked : MethodName := ⟨RX2, "ranked", "(I)I"⟩
def dkwX2_ranked_4 : List UInt8 := [167, 0, 13, 44, 182, 0, 168, 192, 1, 53, 180, 1, 57, 172]
abbrev dktX2_ranked_4 : List UInt8 := dkwX2_ranked_4 ++ []
def dkwX2_ranked_3 : List UInt8 := [192, 1, 53, 58, 4, 132, 3, 1, 167, 255, 232, 27, 155, 0, 10, 44, 182, 0, 165, 153, 0, 7, 2]
abbrev dktX2_ranked_3 : List UInt8 := dkwX2_ranked_3 ++ dktX2_ranked_4
def dkwX2_ranked_2 : List UInt8 := [132, 3, 1, 167, 255, 222, 3, 62, 29, 27, 162, 0, 25, 44, 182, 0, 165, 154, 0, 18, 44, 182, 0, 168]
abbrev dktX2_ranked_2 : List UInt8 := dkwX2_ranked_2 ++ dktX2_ranked_3
def dkwX2_ranked_1 : List UInt8 := [187, 1, 53, 89, 29, 42, 180, 0, 39, 29, 46, 42, 180, 0, 42, 29, 46, 183, 1, 55, 182, 0, 164, 87]
abbrev dktX2_ranked_1 : List UInt8 := dkwX2_ranked_1 ++ dktX2_ranked_2
def dkwX2_ranked_0 : List UInt8 := [187, 0, 152, 89, 187, 1, 50, 89, 183, 1, 52, 183, 0, 158, 77, 3, 62, 29, 16, 16, 162, 0, 34, 44]
abbrev dktX2_ranked_0 : List UInt8 := dkwX2_ranked_0 ++ dktX2_ranked_1
theorem dksX2_ranked_0 : cX2_ranked.data.toList.drop 0 = dktX2_ranked_0 := by decide +kernel
theorem dksX2_ranked_1 : cX2_ranked.data.toList.drop 24 = dktX2_ranked_1 := dk_seg dksX2_ranked_0 24 rfl rfl
theorem dksX2_ranked_2 : cX2_ranked.data.toList.drop 48 = dktX2_ranked_2 := dk_seg dksX2_ranked_1 24 rfl rfl
theorem dksX2_ranked_3 : cX2_ranked.data.toList.drop 72 = dktX2_ranked_3 := dk_seg dksX2_ranked_2 24 rfl rfl
theorem dksX2_ranked_4 : cX2_ranked.data.toList.drop 95 = dktX2_ranked_4 := dk_seg dksX2_ranked_3 23 rfl rfl
theorem dX2_ranked_0 : decode cX2_ranked 0 = .ok (.new 152, 3) := dk_187 0 152 (dk_at dksX2_ranked_0 0 rfl rfl)
theorem dX2_ranked_3 : decode cX2_ranked 3 = .ok (.dup, 1) := dk_89 (dk_at dksX2_ranked_0 3 rfl rfl)
theorem dX2_ranked_4 : decode cX2_ranked 4 = .ok (.new 306, 3) := dk_187 1 50 (dk_at dksX2_ranked_0 4 rfl rfl)
theorem dX2_ranked_7 : decode cX2_ranked 7 = .ok (.dup, 1) := dk_89 (dk_at dksX2_ranked_0 7 rfl rfl)
theorem dX2_ranked_8 : decode cX2_ranked 8 = .ok (.invokespecial 308, 3) := dk_183 1 52 (dk_at dksX2_ranked_0 8 rfl rfl)
theorem dX2_ranked_11 : decode cX2_ranked 11 = .ok (.invokespecial 158, 3) := dk_183 0 158 (dk_at dksX2_ranked_0 11 rfl rfl)
theorem dX2_ranked_14 : decode cX2_ranked 14 = .ok (.astore_n 2, 1) := dk_77 (dk_at dksX2_ranked_0 14 rfl rfl)
theorem dX2_ranked_15 : decode cX2_ranked 15 = .ok (.iconst 0, 1) := dk_3 (dk_at dksX2_ranked_0 15 rfl rfl)
theorem dX2_ranked_16 : decode cX2_ranked 16 = .ok (.istore_n 3, 1) := dk_62 (dk_at dksX2_ranked_0 16 rfl rfl)
theorem dX2_ranked_17 : decode cX2_ranked 17 = .ok (.iload_n 3, 1) := dk_29 (dk_at dksX2_ranked_0 17 rfl rfl)
theorem dX2_ranked_18 : decode cX2_ranked 18 = .ok (.bipush 16, 2) := dk_16 16 (dk_at dksX2_ranked_0 18 rfl rfl)
theorem dX2_ranked_20 : decode cX2_ranked 20 = .ok (.if_icmp .ge 34, 3) := dk_162 0 34 (dk_at dksX2_ranked_0 20 rfl rfl)
theorem dX2_ranked_23 : decode cX2_ranked 23 = .ok (.aload_n 2, 1) := dk_44 (dk_at dksX2_ranked_0 23 rfl rfl)
theorem dX2_ranked_24 : decode cX2_ranked 24 = .ok (.new 309, 3) := dk_187 1 53 (dk_at dksX2_ranked_1 0 rfl rfl)
theorem dX2_ranked_27 : decode cX2_ranked 27 = .ok (.dup, 1) := dk_89 (dk_at dksX2_ranked_1 3 rfl rfl)
theorem dX2_ranked_28 : decode cX2_ranked 28 = .ok (.iload_n 3, 1) := dk_29 (dk_at dksX2_ranked_1 4 rfl rfl)
theorem dX2_ranked_29 : decode cX2_ranked 29 = .ok (.aload_n 0, 1) := dk_42 (dk_at dksX2_ranked_1 5 rfl rfl)
theorem dX2_ranked_30 : decode cX2_ranked 30 = .ok (.getfield 39, 3) := dk_180 0 39 (dk_at dksX2_ranked_1 6 rfl rfl)
theorem dX2_ranked_33 : decode cX2_ranked 33 = .ok (.iload_n 3, 1) := dk_29 (dk_at dksX2_ranked_1 9 rfl rfl)
theorem dX2_ranked_34 : decode cX2_ranked 34 = .ok (.iaload, 1) := dk_46 (dk_at dksX2_ranked_1 10 rfl rfl)
theorem dX2_ranked_35 : decode cX2_ranked 35 = .ok (.aload_n 0, 1) := dk_42 (dk_at dksX2_ranked_1 11 rfl rfl)
theorem dX2_ranked_36 : decode cX2_ranked 36 = .ok (.getfield 42, 3) := dk_180 0 42 (dk_at dksX2_ranked_1 12 rfl rfl)
theorem dX2_ranked_39 : decode cX2_ranked 39 = .ok (.iload_n 3, 1) := dk_29 (dk_at dksX2_ranked_1 15 rfl rfl)
theorem dX2_ranked_40 : decode cX2_ranked 40 = .ok (.iaload, 1) := dk_46 (dk_at dksX2_ranked_1 16 rfl rfl)
theorem dX2_ranked_41 : decode cX2_ranked 41 = .ok (.invokespecial 311, 3) := dk_183 1 55 (dk_at dksX2_ranked_1 17 rfl rfl)
theorem dX2_ranked_44 : decode cX2_ranked 44 = .ok (.invokevirtual 164, 3) := dk_182 0 164 (dk_at dksX2_ranked_1 20 rfl rfl)
theorem dX2_ranked_47 : decode cX2_ranked 47 = .ok (.pop, 1) := dk_87 (dk_at dksX2_ranked_1 23 rfl rfl)
theorem dX2_ranked_48 : decode cX2_ranked 48 = .ok (.iinc 3 1, 3) := dk_132 3 1 (dk_at dksX2_ranked_2 0 rfl rfl)
theorem dX2_ranked_51 : decode cX2_ranked 51 = .ok (.goto (-34), 3) := dk_167 255 222 (dk_at dksX2_ranked_2 3 rfl rfl)
theorem dX2_ranked_54 : decode cX2_ranked 54 = .ok (.iconst 0, 1) := dk_3 (dk_at dksX2_ranked_2 6 rfl rfl)
theorem dX2_ranked_55 : decode cX2_ranked 55 = .ok (.istore_n 3, 1) := dk_62 (dk_at dksX2_ranked_2 7 rfl rfl)
theorem dX2_ranked_56 : decode cX2_ranked 56 = .ok (.iload_n 3, 1) := dk_29 (dk_at dksX2_ranked_2 8 rfl rfl)
theorem dX2_ranked_57 : decode cX2_ranked 57 = .ok (.iload_n 1, 1) := dk_27 (dk_at dksX2_ranked_2 9 rfl rfl)
theorem dX2_ranked_58 : decode cX2_ranked 58 = .ok (.if_icmp .ge 25, 3) := dk_162 0 25 (dk_at dksX2_ranked_2 10 rfl rfl)
theorem dX2_ranked_61 : decode cX2_ranked 61 = .ok (.aload_n 2, 1) := dk_44 (dk_at dksX2_ranked_2 13 rfl rfl)
theorem dX2_ranked_62 : decode cX2_ranked 62 = .ok (.invokevirtual 165, 3) := dk_182 0 165 (dk_at dksX2_ranked_2 14 rfl rfl)
theorem dX2_ranked_65 : decode cX2_ranked 65 = .ok (.ifCond .ne 18, 3) := dk_154 0 18 (dk_at dksX2_ranked_2 17 rfl rfl)
theorem dX2_ranked_68 : decode cX2_ranked 68 = .ok (.aload_n 2, 1) := dk_44 (dk_at dksX2_ranked_2 20 rfl rfl)
theorem dX2_ranked_69 : decode cX2_ranked 69 = .ok (.invokevirtual 168, 3) := dk_182 0 168 (dk_at dksX2_ranked_2 21 rfl rfl)
theorem dX2_ranked_72 : decode cX2_ranked 72 = .ok (.checkcast 309, 3) := dk_192 1 53 (dk_at dksX2_ranked_3 0 rfl rfl)
theorem dX2_ranked_75 : decode cX2_ranked 75 = .ok (.astore 4, 2) := dk_58 4 (dk_at dksX2_ranked_3 3 rfl rfl)
theorem dX2_ranked_77 : decode cX2_ranked 77 = .ok (.iinc 3 1, 3) := dk_132 3 1 (dk_at dksX2_ranked_3 5 rfl rfl)
theorem dX2_ranked_80 : decode cX2_ranked 80 = .ok (.goto (-24), 3) := dk_167 255 232 (dk_at dksX2_ranked_3 8 rfl rfl)
theorem dX2_ranked_83 : decode cX2_ranked 83 = .ok (.iload_n 1, 1) := dk_27 (dk_at dksX2_ranked_3 11 rfl rfl)
theorem dX2_ranked_84 : decode cX2_ranked 84 = .ok (.ifCond .lt 10, 3) := dk_155 0 10 (dk_at dksX2_ranked_3 12 rfl rfl)
theorem dX2_ranked_87 : decode cX2_ranked 87 = .ok (.aload_n 2, 1) := dk_44 (dk_at dksX2_ranked_3 15 rfl rfl)
theorem dX2_ranked_88 : decode cX2_ranked 88 = .ok (.invokevirtual 165, 3) := dk_182 0 165 (dk_at dksX2_ranked_3 16 rfl rfl)
theorem dX2_ranked_91 : decode cX2_ranked 91 = .ok (.ifCond .eq 7, 3) := dk_153 0 7 (dk_at dksX2_ranked_3 19 rfl rfl)
theorem dX2_ranked_94 : decode cX2_ranked 94 = .ok (.iconst (-1), 1) := dk_2 (dk_at dksX2_ranked_3 22 rfl rfl)
theorem dX2_ranked_95 : decode cX2_ranked 95 = .ok (.goto 13, 3) := dk_167 0 13 (dk_at dksX2_ranked_4 0 rfl rfl)
theorem dX2_ranked_98 : decode cX2_ranked 98 = .ok (.aload_n 2, 1) := dk_44 (dk_at dksX2_ranked_4 3 rfl rfl)
theorem dX2_ranked_99 : decode cX2_ranked 99 = .ok (.invokevirtual 168, 3) := dk_182 0 168 (dk_at dksX2_ranked_4 4 rfl rfl)
theorem dX2_ranked_102 : decode cX2_ranked 102 = .ok (.checkcast 309, 3) := dk_192 1 53 (dk_at dksX2_ranked_4 7 rfl rfl)
theorem dX2_ranked_105 : decode cX2_ranked 105 = .ok (.getfield 313, 3) := dk_180 1 57 (dk_at dksX2_ranked_4 10 rfl rfl)
theorem dX2_ranked_108 : decode cX2_ranked 108 = .ok (.ireturn, 1) := dk_172 (dk_at dksX2_ranked_4 13 rfl rfl)
abbrev cX2_nextDirty : ByteArray := prog_9_method_34_code
def yX2_nextDirty : MethodName := ⟨RX2, "nextDirty", "(I)I"⟩
def dkwX2_nextDirty_1 : List UInt8 := [2, 172]
abbrev dktX2_nextDirty_1 : List UInt8 := dkwX2_nextDirty_1 ++ []
def dkwX2_nextDirty_0 : List UInt8 := [27, 61, 28, 16, 64, 162, 0, 19, 42, 28, 182, 1, 58, 153, 0, 5, 28, 172, 132, 2, 1, 167, 255, 237]
abbrev dktX2_nextDirty_0 : List UInt8 := dkwX2_nextDirty_0 ++ dktX2_nextDirty_1
theorem dksX2_nextDirty_0 : cX2_nextDirty.data.toList.drop 0 = dktX2_nextDirty_0 := by decide +kernel
theorem dksX2_nextDirty_1 : cX2_nextDirty.data.toList.drop 24 = dktX2_nextDirty_1 := dk_seg dksX2_nextDirty_0 24 rfl rfl
theorem dX2_nextDirty_0 : decode cX2_nextDirty 0 = .ok (.iload_n 1, 1) := dk_27 (dk_at dksX2_nextDirty_0 0 rfl rfl)
theorem dX2_nextDirty_1 : decode cX2_nextDirty 1 = .ok (.istore_n 2, 1) := dk_61 (dk_at dksX2_nextDirty_0 1 rfl rfl)
theorem dX2_nextDirty_2 : decode cX2_nextDirty 2 = .ok (.iload_n 2, 1) := dk_28 (dk_at dksX2_nextDirty_0 2 rfl rfl)
theorem dX2_nextDirty_3 : decode cX2_nextDirty 3 = .ok (.bipush 64, 2) := dk_16 64 (dk_at dksX2_nextDirty_0 3 rfl rfl)
theorem dX2_nextDirty_5 : decode cX2_nextDirty 5 = .ok (.if_icmp .ge 19, 3) := dk_162 0 19 (dk_at dksX2_nextDirty_0 5 rfl rfl)
theorem dX2_nextDirty_8 : decode cX2_nextDirty 8 = .ok (.aload_n 0, 1) := dk_42 (dk_at dksX2_nextDirty_0 8 rfl rfl)
theorem dX2_nextDirty_9 : decode cX2_nextDirty 9 = .ok (.iload_n 2, 1) := dk_28 (dk_at dksX2_nextDirty_0 9 rfl rfl)
theorem dX2_nextDirty_10 : decode cX2_nextDirty 10 = .ok (.invokevirtual 314, 3) := dk_182 1 58 (dk_at dksX2_nextDirty_0 10 rfl rfl)
theorem dX2_nextDirty_13 : decode cX2_nextDirty 13 = .ok (.ifCond .eq 5, 3) := dk_153 0 5 (dk_at dksX2_nextDirty_0 13 rfl rfl)
theorem dX2_nextDirty_16 : decode cX2_nextDirty 16 = .ok (.iload_n 2, 1) := dk_28 (dk_at dksX2_nextDirty_0 16 rfl rfl)
theorem dX2_nextDirty_17 : decode cX2_nextDirty 17 = .ok (.ireturn, 1) := dk_172 (dk_at dksX2_nextDirty_0 17 rfl rfl)
theorem dX2_nextDirty_18 : decode cX2_nextDirty 18 = .ok (.iinc 2 1, 3) := dk_132 2 1 (dk_at dksX2_nextDirty_0 18 rfl rfl)
theorem dX2_nextDirty_21 : decode cX2_nextDirty 21 = .ok (.goto (-19), 3) := dk_167 255 237 (dk_at dksX2_nextDirty_0 21 rfl rfl)
theorem dX2_nextDirty_24 : decode cX2_nextDirty 24 = .ok (.iconst (-1), 1) := dk_2 (dk_at dksX2_nextDirty_1 0 rfl rfl)
theorem dX2_nextDirty_25 : decode cX2_nextDirty 25 = .ok (.ireturn, 1) := dk_172 (dk_at dksX2_nextDirty_1 1 rfl rfl)
abbrev cX2_isDirty : ByteArray := prog_9_method_12_code
def yX2_isDirty : MethodName := ⟨RX2, "isDirty", "(I)Z"⟩
def dkwX2_isDirty_1 : List UInt8 := [167, 0, 4, 3, 172]
abbrev dktX2_isDirty_1 : List UInt8 := dkwX2_isDirty_1 ++ []
def dkwX2_isDirty_0 : List UInt8 := [42, 27, 7, 108, 182, 0, 187, 77, 44, 198, 0, 17, 44, 27, 7, 112, 182, 0, 194, 153, 0, 7, 4]
abbrev dktX2_isDirty_0 : List UInt8 := dkwX2_isDirty_0 ++ dktX2_isDirty_1
theorem dksX2_isDirty_0 : cX2_isDirty.data.toList.drop 0 = dktX2_isDirty_0 := by decide +kernel
theorem dksX2_isDirty_1 : cX2_isDirty.data.toList.drop 23 = dktX2_isDirty_1 := dk_seg dksX2_isDirty_0 23 rfl rfl
theorem dX2_isDirty_0 : decode cX2_isDirty 0 = .ok (.aload_n 0, 1) := dk_42 (dk_at dksX2_isDirty_0 0 rfl rfl)
theorem dX2_isDirty_1 : decode cX2_isDirty 1 = .ok (.iload_n 1, 1) := dk_27 (dk_at dksX2_isDirty_0 1 rfl rfl)
theorem dX2_isDirty_2 : decode cX2_isDirty 2 = .ok (.iconst 4, 1) := dk_7 (dk_at dksX2_isDirty_0 2 rfl rfl)
theorem dX2_isDirty_3 : decode cX2_isDirty 3 = .ok (.idiv, 1) := dk_108 (dk_at dksX2_isDirty_0 3 rfl rfl)
theorem dX2_isDirty_4 : decode cX2_isDirty 4 = .ok (.invokevirtual 187, 3) := dk_182 0 187 (dk_at dksX2_isDirty_0 4 rfl rfl)
theorem dX2_isDirty_7 : decode cX2_isDirty 7 = .ok (.astore_n 2, 1) := dk_77 (dk_at dksX2_isDirty_0 7 rfl rfl)
theorem dX2_isDirty_8 : decode cX2_isDirty 8 = .ok (.aload_n 2, 1) := dk_44 (dk_at dksX2_isDirty_0 8 rfl rfl)
theorem dX2_isDirty_9 : decode cX2_isDirty 9 = .ok (.ifnull 17, 3) := dk_198 0 17 (dk_at dksX2_isDirty_0 9 rfl rfl)
theorem dX2_isDirty_12 : decode cX2_isDirty 12 = .ok (.aload_n 2, 1) := dk_44 (dk_at dksX2_isDirty_0 12 rfl rfl)
theorem dX2_isDirty_13 : decode cX2_isDirty 13 = .ok (.iload_n 1, 1) := dk_27 (dk_at dksX2_isDirty_0 13 rfl rfl)
theorem dX2_isDirty_14 : decode cX2_isDirty 14 = .ok (.iconst 4, 1) := dk_7 (dk_at dksX2_isDirty_0 14 rfl rfl)
theorem dX2_isDirty_15 : decode cX2_isDirty 15 = .ok (.irem, 1) := dk_112 (dk_at dksX2_isDirty_0 15 rfl rfl)
theorem dX2_isDirty_16 : decode cX2_isDirty 16 = .ok (.invokevirtual 194, 3) := dk_182 0 194 (dk_at dksX2_isDirty_0 16 rfl rfl)
theorem dX2_isDirty_19 : decode cX2_isDirty 19 = .ok (.ifCond .eq 7, 3) := dk_153 0 7 (dk_at dksX2_isDirty_0 19 rfl rfl)
theorem dX2_isDirty_22 : decode cX2_isDirty 22 = .ok (.iconst 1, 1) := dk_4 (dk_at dksX2_isDirty_0 22 rfl rfl)
theorem dX2_isDirty_23 : decode cX2_isDirty 23 = .ok (.goto 4, 3) := dk_167 0 4 (dk_at dksX2_isDirty_1 0 rfl rfl)
theorem dX2_isDirty_26 : decode cX2_isDirty 26 = .ok (.iconst 0, 1) := dk_3 (dk_at dksX2_isDirty_1 3 rfl rfl)
theorem dX2_isDirty_27 : decode cX2_isDirty 27 = .ok (.ireturn, 1) := dk_172 (dk_at dksX2_isDirty_1 4 rfl rfl)
abbrev cX2_tell : ByteArray := prog_9_method_39_code
def yX2_tell : MethodName := ⟨RX2, "tell", "(I)Ljava/lang/String;"⟩
def dkwX2_tell_3 : List UInt8 := [25, 4, 182, 1, 80, 182, 1, 76, 87, 167, 255, 206, 44, 182, 1, 84, 176]
abbrev dktX2_tell_3 : List UInt8 := dkwX2_tell_3 ++ []
def dkwX2_tell_2 : List UInt8 := [58, 4, 44, 25, 4, 180, 1, 40, 154, 0, 9, 19, 1, 72, 167, 0, 6, 19, 1, 74, 182, 1, 76]
abbrev dktX2_tell_2 : List UInt8 := dkwX2_tell_2 ++ dktX2_tell_3
def dkwX2_tell_1 : List UInt8 := [185, 0, 62, 1, 0, 78, 45, 185, 0, 68, 1, 0, 153, 0, 47, 45, 185, 0, 74, 1, 0, 192, 0, 78]
abbrev dktX2_tell_1 : List UInt8 := dkwX2_tell_1 ++ dktX2_tell_2
def dkwX2_tell_0 : List UInt8 := [187, 1, 69, 89, 183, 1, 71, 77, 42, 180, 0, 25, 27, 185, 0, 144, 2, 0, 192, 0, 63]
abbrev dktX2_tell_0 : List UInt8 := dkwX2_tell_0 ++ dktX2_tell_1
theorem dksX2_tell_0 : cX2_tell.data.toList.drop 0 = dktX2_tell_0 := by decide +kernel
theorem dksX2_tell_1 : cX2_tell.data.toList.drop 21 = dktX2_tell_1 := dk_seg dksX2_tell_0 21 rfl rfl
theorem dksX2_tell_2 : cX2_tell.data.toList.drop 45 = dktX2_tell_2 := dk_seg dksX2_tell_1 24 rfl rfl
theorem dksX2_tell_3 : cX2_tell.data.toList.drop 68 = dktX2_tell_3 := dk_seg dksX2_tell_2 23 rfl rfl
theorem dX2_tell_0 : decode cX2_tell 0 = .ok (.new 325, 3) := dk_187 1 69 (dk_at dksX2_tell_0 0 rfl rfl)
theorem dX2_tell_3 : decode cX2_tell 3 = .ok (.dup, 1) := dk_89 (dk_at dksX2_tell_0 3 rfl rfl)
theorem dX2_tell_4 : decode cX2_tell 4 = .ok (.invokespecial 327, 3) := dk_183 1 71 (dk_at dksX2_tell_0 4 rfl rfl)
theorem dX2_tell_7 : decode cX2_tell 7 = .ok (.astore_n 2, 1) := dk_77 (dk_at dksX2_tell_0 7 rfl rfl)
theorem dX2_tell_8 : decode cX2_tell 8 = .ok (.aload_n 0, 1) := dk_42 (dk_at dksX2_tell_0 8 rfl rfl)
theorem dX2_tell_9 : decode cX2_tell 9 = .ok (.getfield 25, 3) := dk_180 0 25 (dk_at dksX2_tell_0 9 rfl rfl)
theorem dX2_tell_12 : decode cX2_tell 12 = .ok (.iload_n 1, 1) := dk_27 (dk_at dksX2_tell_0 12 rfl rfl)
theorem dX2_tell_13 : decode cX2_tell 13 = .ok (.invokeinterface 144 2, 5) := by decide +kernel
theorem dX2_tell_18 : decode cX2_tell 18 = .ok (.checkcast 63, 3) := dk_192 0 63 (dk_at dksX2_tell_0 18 rfl rfl)
theorem dX2_tell_21 : decode cX2_tell 21 = .ok (.invokeinterface 62 1, 5) := by decide +kernel
theorem dX2_tell_26 : decode cX2_tell 26 = .ok (.astore_n 3, 1) := dk_78 (dk_at dksX2_tell_1 5 rfl rfl)
theorem dX2_tell_27 : decode cX2_tell 27 = .ok (.aload_n 3, 1) := dk_45 (dk_at dksX2_tell_1 6 rfl rfl)
theorem dX2_tell_28 : decode cX2_tell 28 = .ok (.invokeinterface 68 1, 5) := by decide +kernel
theorem dX2_tell_33 : decode cX2_tell 33 = .ok (.ifCond .eq 47, 3) := dk_153 0 47 (dk_at dksX2_tell_1 12 rfl rfl)
theorem dX2_tell_36 : decode cX2_tell 36 = .ok (.aload_n 3, 1) := dk_45 (dk_at dksX2_tell_1 15 rfl rfl)
theorem dX2_tell_37 : decode cX2_tell 37 = .ok (.invokeinterface 74 1, 5) := by decide +kernel
theorem dX2_tell_42 : decode cX2_tell 42 = .ok (.checkcast 78, 3) := dk_192 0 78 (dk_at dksX2_tell_1 21 rfl rfl)
theorem dX2_tell_45 : decode cX2_tell 45 = .ok (.astore 4, 2) := dk_58 4 (dk_at dksX2_tell_2 0 rfl rfl)
theorem dX2_tell_47 : decode cX2_tell 47 = .ok (.aload_n 2, 1) := dk_44 (dk_at dksX2_tell_2 2 rfl rfl)
theorem dX2_tell_48 : decode cX2_tell 48 = .ok (.aload 4, 2) := dk_25 4 (dk_at dksX2_tell_2 3 rfl rfl)
theorem dX2_tell_50 : decode cX2_tell 50 = .ok (.getfield 296, 3) := dk_180 1 40 (dk_at dksX2_tell_2 5 rfl rfl)
theorem dX2_tell_53 : decode cX2_tell 53 = .ok (.ifCond .ne 9, 3) := dk_154 0 9 (dk_at dksX2_tell_2 8 rfl rfl)
theorem dX2_tell_56 : decode cX2_tell 56 = .ok (.ldc_w 328, 3) := dk_19 1 72 (dk_at dksX2_tell_2 11 rfl rfl)
theorem dX2_tell_59 : decode cX2_tell 59 = .ok (.goto 6, 3) := dk_167 0 6 (dk_at dksX2_tell_2 14 rfl rfl)
theorem dX2_tell_62 : decode cX2_tell 62 = .ok (.ldc_w 330, 3) := dk_19 1 74 (dk_at dksX2_tell_2 17 rfl rfl)
theorem dX2_tell_65 : decode cX2_tell 65 = .ok (.invokevirtual 332, 3) := dk_182 1 76 (dk_at dksX2_tell_2 20 rfl rfl)
theorem dX2_tell_68 : decode cX2_tell 68 = .ok (.aload 4, 2) := dk_25 4 (dk_at dksX2_tell_3 0 rfl rfl)
theorem dX2_tell_70 : decode cX2_tell 70 = .ok (.invokevirtual 336, 3) := dk_182 1 80 (dk_at dksX2_tell_3 2 rfl rfl)
theorem dX2_tell_73 : decode cX2_tell 73 = .ok (.invokevirtual 332, 3) := dk_182 1 76 (dk_at dksX2_tell_3 5 rfl rfl)
theorem dX2_tell_76 : decode cX2_tell 76 = .ok (.pop, 1) := dk_87 (dk_at dksX2_tell_3 8 rfl rfl)
theorem dX2_tell_77 : decode cX2_tell 77 = .ok (.goto (-50), 3) := dk_167 255 206 (dk_at dksX2_tell_3 9 rfl rfl)
theorem dX2_tell_80 : decode cX2_tell 80 = .ok (.aload_n 2, 1) := dk_44 (dk_at dksX2_tell_3 12 rfl rfl)
theorem dX2_tell_81 : decode cX2_tell 81 = .ok (.invokevirtual 340, 3) := dk_182 1 84 (dk_at dksX2_tell_3 13 rfl rfl)
theorem dX2_tell_84 : decode cX2_tell 84 = .ok (.areturn, 1) := dk_176 (dk_at dksX2_tell_3 16 rfl rfl)
