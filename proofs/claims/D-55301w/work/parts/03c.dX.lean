set_option maxRecDepth 100000
abbrev cX3_init : ByteArray := prog_8_method_1_code
def yX3_init : MethodName := ⟨RX3, "<init>", "(I)V"⟩
def dkwX3_init_1 : List UInt8 := [181, 0, 22, 42, 2, 181, 0, 25, 42, 27, 181, 0, 28, 177]
abbrev dktX3_init_1 : List UInt8 := dkwX3_init_1 ++ []
def dkwX3_init_0 : List UInt8 := [42, 183, 0, 3, 42, 7, 188, 10, 181, 0, 9, 42, 2, 181, 0, 15, 42, 2, 181, 0, 19, 42, 2]
abbrev dktX3_init_0 : List UInt8 := dkwX3_init_0 ++ dktX3_init_1
theorem dksX3_init_0 : cX3_init.data.toList.drop 0 = dktX3_init_0 := by decide +kernel
theorem dksX3_init_1 : cX3_init.data.toList.drop 23 = dktX3_init_1 := dk_seg dksX3_init_0 23 rfl rfl
theorem dX3_init_0 : decode cX3_init 0 = .ok (.aload_n 0, 1) := dk_42 (dk_at dksX3_init_0 0 rfl rfl)
theorem dX3_init_1 : decode cX3_init 1 = .ok (.invokespecial 3, 3) := dk_183 0 3 (dk_at dksX3_init_0 1 rfl rfl)
theorem dX3_init_4 : decode cX3_init 4 = .ok (.aload_n 0, 1) := dk_42 (dk_at dksX3_init_0 4 rfl rfl)
theorem dX3_init_5 : decode cX3_init 5 = .ok (.iconst 4, 1) := dk_7 (dk_at dksX3_init_0 5 rfl rfl)
theorem dX3_init_6 : decode cX3_init 6 = .ok (.newarray .int, 2) := dk_188_10 (dk_at dksX3_init_0 6 rfl rfl)
theorem dX3_init_8 : decode cX3_init 8 = .ok (.putfield 9, 3) := dk_181 0 9 (dk_at dksX3_init_0 8 rfl rfl)
theorem dX3_init_11 : decode cX3_init 11 = .ok (.aload_n 0, 1) := dk_42 (dk_at dksX3_init_0 11 rfl rfl)
theorem dX3_init_12 : decode cX3_init 12 = .ok (.iconst (-1), 1) := dk_2 (dk_at dksX3_init_0 12 rfl rfl)
theorem dX3_init_13 : decode cX3_init 13 = .ok (.putfield 15, 3) := dk_181 0 15 (dk_at dksX3_init_0 13 rfl rfl)
theorem dX3_init_16 : decode cX3_init 16 = .ok (.aload_n 0, 1) := dk_42 (dk_at dksX3_init_0 16 rfl rfl)
theorem dX3_init_17 : decode cX3_init 17 = .ok (.iconst (-1), 1) := dk_2 (dk_at dksX3_init_0 17 rfl rfl)
theorem dX3_init_18 : decode cX3_init 18 = .ok (.putfield 19, 3) := dk_181 0 19 (dk_at dksX3_init_0 18 rfl rfl)
theorem dX3_init_21 : decode cX3_init 21 = .ok (.aload_n 0, 1) := dk_42 (dk_at dksX3_init_0 21 rfl rfl)
theorem dX3_init_22 : decode cX3_init 22 = .ok (.iconst (-1), 1) := dk_2 (dk_at dksX3_init_0 22 rfl rfl)
theorem dX3_init_23 : decode cX3_init 23 = .ok (.putfield 22, 3) := dk_181 0 22 (dk_at dksX3_init_1 0 rfl rfl)
theorem dX3_init_26 : decode cX3_init 26 = .ok (.aload_n 0, 1) := dk_42 (dk_at dksX3_init_1 3 rfl rfl)
theorem dX3_init_27 : decode cX3_init 27 = .ok (.iconst (-1), 1) := dk_2 (dk_at dksX3_init_1 4 rfl rfl)
theorem dX3_init_28 : decode cX3_init 28 = .ok (.putfield 25, 3) := dk_181 0 25 (dk_at dksX3_init_1 5 rfl rfl)
theorem dX3_init_31 : decode cX3_init 31 = .ok (.aload_n 0, 1) := dk_42 (dk_at dksX3_init_1 8 rfl rfl)
theorem dX3_init_32 : decode cX3_init 32 = .ok (.iload_n 1, 1) := dk_27 (dk_at dksX3_init_1 9 rfl rfl)
theorem dX3_init_33 : decode cX3_init 33 = .ok (.putfield 28, 3) := dk_181 0 28 (dk_at dksX3_init_1 10 rfl rfl)
theorem dX3_init_36 : decode cX3_init 36 = .ok (.return_, 1) := dk_177 (dk_at dksX3_init_1 13 rfl rfl)
abbrev cX3_dirtyWords : ByteArray := prog_8_method_6_code
def yX3_dirtyWords : MethodName := ⟨RX3, "dirtyWords", "()I"⟩
def dkwX3_dirtyWords_0 : List UInt8 := [42, 180, 0, 40, 184, 0, 51, 172]
abbrev dktX3_dirtyWords_0 : List UInt8 := dkwX3_dirtyWords_0 ++ []
theorem dksX3_dirtyWords_0 : cX3_dirtyWords.data.toList.drop 0 = dktX3_dirtyWords_0 := by decide +kernel
theorem dX3_dirtyWords_0 : decode cX3_dirtyWords 0 = .ok (.aload_n 0, 1) := dk_42 (dk_at dksX3_dirtyWords_0 0 rfl rfl)
theorem dX3_dirtyWords_1 : decode cX3_dirtyWords 1 = .ok (.getfield 40, 3) := dk_180 0 40 (dk_at dksX3_dirtyWords_0 1 rfl rfl)
theorem dX3_dirtyWords_4 : decode cX3_dirtyWords 4 = .ok (.invokestatic 51, 3) := dk_184 0 51 (dk_at dksX3_dirtyWords_0 4 rfl rfl)
theorem dX3_dirtyWords_7 : decode cX3_dirtyWords 7 = .ok (.ireturn, 1) := dk_172 (dk_at dksX3_dirtyWords_0 7 rfl rfl)
abbrev cX3_init_2 : ByteArray := prog_8_method_2_code
def yX3_init_2 : MethodName := ⟨RX3, "<init>", "(LWordCache$Line;)V"⟩
def dkwX3_init_2_2 : List UInt8 := [180, 0, 19, 181, 0, 19, 42, 43, 180, 0, 22, 181, 0, 22, 42, 43, 180, 0, 25, 181, 0, 25, 177]
abbrev dktX3_init_2_2 : List UInt8 := dkwX3_init_2_2 ++ []
def dkwX3_init_2_1 : List UInt8 := [180, 0, 15, 181, 0, 15, 42, 43, 180, 0, 40, 181, 0, 40, 42, 43, 180, 0, 43, 181, 0, 43, 42, 43]
abbrev dktX3_init_2_1 : List UInt8 := dkwX3_init_2_1 ++ dktX3_init_2_2
def dkwX3_init_2_0 : List UInt8 := [42, 43, 180, 0, 28, 183, 0, 31, 43, 180, 0, 9, 3, 42, 180, 0, 9, 3, 7, 184, 0, 34, 42, 43]
abbrev dktX3_init_2_0 : List UInt8 := dkwX3_init_2_0 ++ dktX3_init_2_1
theorem dksX3_init_2_0 : cX3_init_2.data.toList.drop 0 = dktX3_init_2_0 := by decide +kernel
theorem dksX3_init_2_1 : cX3_init_2.data.toList.drop 24 = dktX3_init_2_1 := dk_seg dksX3_init_2_0 24 rfl rfl
theorem dksX3_init_2_2 : cX3_init_2.data.toList.drop 48 = dktX3_init_2_2 := dk_seg dksX3_init_2_1 24 rfl rfl
theorem dX3_init_2_0 : decode cX3_init_2 0 = .ok (.aload_n 0, 1) := dk_42 (dk_at dksX3_init_2_0 0 rfl rfl)
theorem dX3_init_2_1 : decode cX3_init_2 1 = .ok (.aload_n 1, 1) := dk_43 (dk_at dksX3_init_2_0 1 rfl rfl)
theorem dX3_init_2_2 : decode cX3_init_2 2 = .ok (.getfield 28, 3) := dk_180 0 28 (dk_at dksX3_init_2_0 2 rfl rfl)
theorem dX3_init_2_5 : decode cX3_init_2 5 = .ok (.invokespecial 31, 3) := dk_183 0 31 (dk_at dksX3_init_2_0 5 rfl rfl)
theorem dX3_init_2_8 : decode cX3_init_2 8 = .ok (.aload_n 1, 1) := dk_43 (dk_at dksX3_init_2_0 8 rfl rfl)
theorem dX3_init_2_9 : decode cX3_init_2 9 = .ok (.getfield 9, 3) := dk_180 0 9 (dk_at dksX3_init_2_0 9 rfl rfl)
theorem dX3_init_2_12 : decode cX3_init_2 12 = .ok (.iconst 0, 1) := dk_3 (dk_at dksX3_init_2_0 12 rfl rfl)
theorem dX3_init_2_13 : decode cX3_init_2 13 = .ok (.aload_n 0, 1) := dk_42 (dk_at dksX3_init_2_0 13 rfl rfl)
theorem dX3_init_2_14 : decode cX3_init_2 14 = .ok (.getfield 9, 3) := dk_180 0 9 (dk_at dksX3_init_2_0 14 rfl rfl)
theorem dX3_init_2_17 : decode cX3_init_2 17 = .ok (.iconst 0, 1) := dk_3 (dk_at dksX3_init_2_0 17 rfl rfl)
theorem dX3_init_2_18 : decode cX3_init_2 18 = .ok (.iconst 4, 1) := dk_7 (dk_at dksX3_init_2_0 18 rfl rfl)
theorem dX3_init_2_19 : decode cX3_init_2 19 = .ok (.invokestatic 34, 3) := dk_184 0 34 (dk_at dksX3_init_2_0 19 rfl rfl)
theorem dX3_init_2_22 : decode cX3_init_2 22 = .ok (.aload_n 0, 1) := dk_42 (dk_at dksX3_init_2_0 22 rfl rfl)
theorem dX3_init_2_23 : decode cX3_init_2 23 = .ok (.aload_n 1, 1) := dk_43 (dk_at dksX3_init_2_0 23 rfl rfl)
theorem dX3_init_2_24 : decode cX3_init_2 24 = .ok (.getfield 15, 3) := dk_180 0 15 (dk_at dksX3_init_2_1 0 rfl rfl)
theorem dX3_init_2_27 : decode cX3_init_2 27 = .ok (.putfield 15, 3) := dk_181 0 15 (dk_at dksX3_init_2_1 3 rfl rfl)
theorem dX3_init_2_30 : decode cX3_init_2 30 = .ok (.aload_n 0, 1) := dk_42 (dk_at dksX3_init_2_1 6 rfl rfl)
theorem dX3_init_2_31 : decode cX3_init_2 31 = .ok (.aload_n 1, 1) := dk_43 (dk_at dksX3_init_2_1 7 rfl rfl)
theorem dX3_init_2_32 : decode cX3_init_2 32 = .ok (.getfield 40, 3) := dk_180 0 40 (dk_at dksX3_init_2_1 8 rfl rfl)
theorem dX3_init_2_35 : decode cX3_init_2 35 = .ok (.putfield 40, 3) := dk_181 0 40 (dk_at dksX3_init_2_1 11 rfl rfl)
theorem dX3_init_2_38 : decode cX3_init_2 38 = .ok (.aload_n 0, 1) := dk_42 (dk_at dksX3_init_2_1 14 rfl rfl)
theorem dX3_init_2_39 : decode cX3_init_2 39 = .ok (.aload_n 1, 1) := dk_43 (dk_at dksX3_init_2_1 15 rfl rfl)
theorem dX3_init_2_40 : decode cX3_init_2 40 = .ok (.getfield 43, 3) := dk_180 0 43 (dk_at dksX3_init_2_1 16 rfl rfl)
theorem dX3_init_2_43 : decode cX3_init_2 43 = .ok (.putfield 43, 3) := dk_181 0 43 (dk_at dksX3_init_2_1 19 rfl rfl)
theorem dX3_init_2_46 : decode cX3_init_2 46 = .ok (.aload_n 0, 1) := dk_42 (dk_at dksX3_init_2_1 22 rfl rfl)
theorem dX3_init_2_47 : decode cX3_init_2 47 = .ok (.aload_n 1, 1) := dk_43 (dk_at dksX3_init_2_1 23 rfl rfl)
theorem dX3_init_2_48 : decode cX3_init_2 48 = .ok (.getfield 19, 3) := dk_180 0 19 (dk_at dksX3_init_2_2 0 rfl rfl)
theorem dX3_init_2_51 : decode cX3_init_2 51 = .ok (.putfield 19, 3) := dk_181 0 19 (dk_at dksX3_init_2_2 3 rfl rfl)
theorem dX3_init_2_54 : decode cX3_init_2 54 = .ok (.aload_n 0, 1) := dk_42 (dk_at dksX3_init_2_2 6 rfl rfl)
theorem dX3_init_2_55 : decode cX3_init_2 55 = .ok (.aload_n 1, 1) := dk_43 (dk_at dksX3_init_2_2 7 rfl rfl)
theorem dX3_init_2_56 : decode cX3_init_2 56 = .ok (.getfield 22, 3) := dk_180 0 22 (dk_at dksX3_init_2_2 8 rfl rfl)
theorem dX3_init_2_59 : decode cX3_init_2 59 = .ok (.putfield 22, 3) := dk_181 0 22 (dk_at dksX3_init_2_2 11 rfl rfl)
theorem dX3_init_2_62 : decode cX3_init_2 62 = .ok (.aload_n 0, 1) := dk_42 (dk_at dksX3_init_2_2 14 rfl rfl)
theorem dX3_init_2_63 : decode cX3_init_2 63 = .ok (.aload_n 1, 1) := dk_43 (dk_at dksX3_init_2_2 15 rfl rfl)
theorem dX3_init_2_64 : decode cX3_init_2 64 = .ok (.getfield 25, 3) := dk_180 0 25 (dk_at dksX3_init_2_2 16 rfl rfl)
theorem dX3_init_2_67 : decode cX3_init_2 67 = .ok (.putfield 25, 3) := dk_181 0 25 (dk_at dksX3_init_2_2 19 rfl rfl)
theorem dX3_init_2_70 : decode cX3_init_2 70 = .ok (.return_, 1) := dk_177 (dk_at dksX3_init_2_2 22 rfl rfl)
abbrev cX3_isEmpty : ByteArray := prog_8_method_3_code
def yX3_isEmpty : MethodName := ⟨RX3, "isEmpty", "()Z"⟩
def dkwX3_isEmpty_0 : List UInt8 := [42, 180, 0, 15, 2, 160, 0, 7, 4, 167, 0, 4, 3, 172]
abbrev dktX3_isEmpty_0 : List UInt8 := dkwX3_isEmpty_0 ++ []
theorem dksX3_isEmpty_0 : cX3_isEmpty.data.toList.drop 0 = dktX3_isEmpty_0 := by decide +kernel
theorem dX3_isEmpty_0 : decode cX3_isEmpty 0 = .ok (.aload_n 0, 1) := dk_42 (dk_at dksX3_isEmpty_0 0 rfl rfl)
theorem dX3_isEmpty_1 : decode cX3_isEmpty 1 = .ok (.getfield 15, 3) := dk_180 0 15 (dk_at dksX3_isEmpty_0 1 rfl rfl)
theorem dX3_isEmpty_4 : decode cX3_isEmpty 4 = .ok (.iconst (-1), 1) := dk_2 (dk_at dksX3_isEmpty_0 4 rfl rfl)
theorem dX3_isEmpty_5 : decode cX3_isEmpty 5 = .ok (.if_icmp .ne 7, 3) := dk_160 0 7 (dk_at dksX3_isEmpty_0 5 rfl rfl)
theorem dX3_isEmpty_8 : decode cX3_isEmpty 8 = .ok (.iconst 1, 1) := dk_4 (dk_at dksX3_isEmpty_0 8 rfl rfl)
theorem dX3_isEmpty_9 : decode cX3_isEmpty 9 = .ok (.goto 4, 3) := dk_167 0 4 (dk_at dksX3_isEmpty_0 9 rfl rfl)
theorem dX3_isEmpty_12 : decode cX3_isEmpty 12 = .ok (.iconst 0, 1) := dk_3 (dk_at dksX3_isEmpty_0 12 rfl rfl)
theorem dX3_isEmpty_13 : decode cX3_isEmpty 13 = .ok (.ireturn, 1) := dk_172 (dk_at dksX3_isEmpty_0 13 rfl rfl)
abbrev cX3_isDirty : ByteArray := prog_8_method_7_code
def yX3_isDirty : MethodName := ⟨RX3, "isDirty", "(I)Z"⟩
def dkwX3_isDirty_0 : List UInt8 := [42, 180, 0, 40, 27, 122, 4, 126, 4, 160, 0, 7, 4, 167, 0, 4, 3, 172]
abbrev dktX3_isDirty_0 : List UInt8 := dkwX3_isDirty_0 ++ []
theorem dksX3_isDirty_0 : cX3_isDirty.data.toList.drop 0 = dktX3_isDirty_0 := by decide +kernel
theorem dX3_isDirty_0 : decode cX3_isDirty 0 = .ok (.aload_n 0, 1) := dk_42 (dk_at dksX3_isDirty_0 0 rfl rfl)
theorem dX3_isDirty_1 : decode cX3_isDirty 1 = .ok (.getfield 40, 3) := dk_180 0 40 (dk_at dksX3_isDirty_0 1 rfl rfl)
theorem dX3_isDirty_4 : decode cX3_isDirty 4 = .ok (.iload_n 1, 1) := dk_27 (dk_at dksX3_isDirty_0 4 rfl rfl)
theorem dX3_isDirty_5 : decode cX3_isDirty 5 = .ok (.ishr, 1) := dk_122 (dk_at dksX3_isDirty_0 5 rfl rfl)
theorem dX3_isDirty_6 : decode cX3_isDirty 6 = .ok (.iconst 1, 1) := dk_4 (dk_at dksX3_isDirty_0 6 rfl rfl)
theorem dX3_isDirty_7 : decode cX3_isDirty 7 = .ok (.iand, 1) := dk_126 (dk_at dksX3_isDirty_0 7 rfl rfl)
theorem dX3_isDirty_8 : decode cX3_isDirty 8 = .ok (.iconst 1, 1) := dk_4 (dk_at dksX3_isDirty_0 8 rfl rfl)
theorem dX3_isDirty_9 : decode cX3_isDirty 9 = .ok (.if_icmp .ne 7, 3) := dk_160 0 7 (dk_at dksX3_isDirty_0 9 rfl rfl)
theorem dX3_isDirty_12 : decode cX3_isDirty 12 = .ok (.iconst 1, 1) := dk_4 (dk_at dksX3_isDirty_0 12 rfl rfl)
theorem dX3_isDirty_13 : decode cX3_isDirty 13 = .ok (.goto 4, 3) := dk_167 0 4 (dk_at dksX3_isDirty_0 13 rfl rfl)
theorem dX3_isDirty_16 : decode cX3_isDirty 16 = .ok (.iconst 0, 1) := dk_3 (dk_at dksX3_isDirty_0 16 rfl rfl)
theorem dX3_isDirty_17 : decode cX3_isDirty 17 = .ok (.ireturn, 1) := dk_172 (dk_at dksX3_isDirty_0 17 rfl rfl)
abbrev cX3_mayGive : ByteArray := prog_8_method_4_code
def yX3_mayGive : MethodName := ⟨RX3, "mayGive", "()Z"⟩
def dkwX3_mayGive_0 : List UInt8 := [42, 182, 0, 47, 154, 0, 14, 42, 180, 0, 43, 154, 0, 7, 4, 167, 0, 4, 3, 172]
abbrev dktX3_mayGive_0 : List UInt8 := dkwX3_mayGive_0 ++ []
theorem dksX3_mayGive_0 : cX3_mayGive.data.toList.drop 0 = dktX3_mayGive_0 := by decide +kernel
theorem dX3_mayGive_0 : decode cX3_mayGive 0 = .ok (.aload_n 0, 1) := dk_42 (dk_at dksX3_mayGive_0 0 rfl rfl)
theorem dX3_mayGive_1 : decode cX3_mayGive 1 = .ok (.invokevirtual 47, 3) := dk_182 0 47 (dk_at dksX3_mayGive_0 1 rfl rfl)
theorem dX3_mayGive_4 : decode cX3_mayGive 4 = .ok (.ifCond .ne 14, 3) := dk_154 0 14 (dk_at dksX3_mayGive_0 4 rfl rfl)
theorem dX3_mayGive_7 : decode cX3_mayGive 7 = .ok (.aload_n 0, 1) := dk_42 (dk_at dksX3_mayGive_0 7 rfl rfl)
theorem dX3_mayGive_8 : decode cX3_mayGive 8 = .ok (.getfield 43, 3) := dk_180 0 43 (dk_at dksX3_mayGive_0 8 rfl rfl)
theorem dX3_mayGive_11 : decode cX3_mayGive 11 = .ok (.ifCond .ne 7, 3) := dk_154 0 7 (dk_at dksX3_mayGive_0 11 rfl rfl)
theorem dX3_mayGive_14 : decode cX3_mayGive 14 = .ok (.iconst 1, 1) := dk_4 (dk_at dksX3_mayGive_0 14 rfl rfl)
theorem dX3_mayGive_15 : decode cX3_mayGive 15 = .ok (.goto 4, 3) := dk_167 0 4 (dk_at dksX3_mayGive_0 15 rfl rfl)
theorem dX3_mayGive_18 : decode cX3_mayGive 18 = .ok (.iconst 0, 1) := dk_3 (dk_at dksX3_mayGive_0 18 rfl rfl)
theorem dX3_mayGive_19 : decode cX3_mayGive 19 = .ok (.ireturn, 1) := dk_172 (dk_at dksX3_mayGive_0 19 rfl rfl)
abbrev cX3_bank : ByteArray := prog_8_method_5_code
def yX3_bank : MethodName := ⟨RX3, "bank", "()I"⟩
def dkwX3_bank_0 : List UInt8 := [42, 180, 0, 15, 7, 112, 172]
abbrev dktX3_bank_0 : List UInt8 := dkwX3_bank_0 ++ []
theorem dksX3_bank_0 : cX3_bank.data.toList.drop 0 = dktX3_bank_0 := by decide +kernel
theorem dX3_bank_0 : decode cX3_bank 0 = .ok (.aload_n 0, 1) := dk_42 (dk_at dksX3_bank_0 0 rfl rfl)
theorem dX3_bank_1 : decode cX3_bank 1 = .ok (.getfield 15, 3) := dk_180 0 15 (dk_at dksX3_bank_0 1 rfl rfl)
theorem dX3_bank_4 : decode cX3_bank 4 = .ok (.iconst 4, 1) := dk_7 (dk_at dksX3_bank_0 4 rfl rfl)
theorem dX3_bank_5 : decode cX3_bank 5 = .ok (.irem, 1) := dk_112 (dk_at dksX3_bank_0 5 rfl rfl)
theorem dX3_bank_6 : decode cX3_bank 6 = .ok (.ireturn, 1) := dk_172 (dk_at dksX3_bank_0 6 rfl rfl)
abbrev cX3_gets : ByteArray := prog_8_method_9_code
def yX3_gets : MethodName := ⟨RX3, "gets", "(II)V"⟩
def dkwX3_gets_1 : List UInt8 := [181, 0, 25, 177]
abbrev dktX3_gets_1 : List UInt8 := dkwX3_gets_1 ++ []
def dkwX3_gets_0 : List UInt8 := [42, 27, 181, 0, 15, 42, 3, 181, 0, 40, 42, 3, 181, 0, 43, 42, 28, 181, 0, 22, 42, 3]
abbrev dktX3_gets_0 : List UInt8 := dkwX3_gets_0 ++ dktX3_gets_1
theorem dksX3_gets_0 : cX3_gets.data.toList.drop 0 = dktX3_gets_0 := by decide +kernel
theorem dksX3_gets_1 : cX3_gets.data.toList.drop 22 = dktX3_gets_1 := dk_seg dksX3_gets_0 22 rfl rfl
theorem dX3_gets_0 : decode cX3_gets 0 = .ok (.aload_n 0, 1) := dk_42 (dk_at dksX3_gets_0 0 rfl rfl)
theorem dX3_gets_1 : decode cX3_gets 1 = .ok (.iload_n 1, 1) := dk_27 (dk_at dksX3_gets_0 1 rfl rfl)
theorem dX3_gets_2 : decode cX3_gets 2 = .ok (.putfield 15, 3) := dk_181 0 15 (dk_at dksX3_gets_0 2 rfl rfl)
theorem dX3_gets_5 : decode cX3_gets 5 = .ok (.aload_n 0, 1) := dk_42 (dk_at dksX3_gets_0 5 rfl rfl)
theorem dX3_gets_6 : decode cX3_gets 6 = .ok (.iconst 0, 1) := dk_3 (dk_at dksX3_gets_0 6 rfl rfl)
theorem dX3_gets_7 : decode cX3_gets 7 = .ok (.putfield 40, 3) := dk_181 0 40 (dk_at dksX3_gets_0 7 rfl rfl)
theorem dX3_gets_10 : decode cX3_gets 10 = .ok (.aload_n 0, 1) := dk_42 (dk_at dksX3_gets_0 10 rfl rfl)
theorem dX3_gets_11 : decode cX3_gets 11 = .ok (.iconst 0, 1) := dk_3 (dk_at dksX3_gets_0 11 rfl rfl)
theorem dX3_gets_12 : decode cX3_gets 12 = .ok (.putfield 43, 3) := dk_181 0 43 (dk_at dksX3_gets_0 12 rfl rfl)
theorem dX3_gets_15 : decode cX3_gets 15 = .ok (.aload_n 0, 1) := dk_42 (dk_at dksX3_gets_0 15 rfl rfl)
theorem dX3_gets_16 : decode cX3_gets 16 = .ok (.iload_n 2, 1) := dk_28 (dk_at dksX3_gets_0 16 rfl rfl)
theorem dX3_gets_17 : decode cX3_gets 17 = .ok (.putfield 22, 3) := dk_181 0 22 (dk_at dksX3_gets_0 17 rfl rfl)
theorem dX3_gets_20 : decode cX3_gets 20 = .ok (.aload_n 0, 1) := dk_42 (dk_at dksX3_gets_0 20 rfl rfl)
theorem dX3_gets_21 : decode cX3_gets 21 = .ok (.iconst 0, 1) := dk_3 (dk_at dksX3_gets_0 21 rfl rfl)
theorem dX3_gets_22 : decode cX3_gets 22 = .ok (.putfield 25, 3) := dk_181 0 25 (dk_at dksX3_gets_1 0 rfl rfl)
theorem dX3_gets_25 : decode cX3_gets 25 = .ok (.return_, 1) := dk_177 (dk_at dksX3_gets_1 3 rfl rfl)
abbrev cX3_isAccessed : ByteArray := prog_8_method_10_code
def yX3_isAccessed : MethodName := ⟨RX3, "isAccessed", "(I)V"⟩
def dkwX3_isAccessed_0 : List UInt8 := [42, 27, 181, 0, 19, 42, 89, 180, 0, 25, 4, 96, 181, 0, 25, 177]
abbrev dktX3_isAccessed_0 : List UInt8 := dkwX3_isAccessed_0 ++ []
theorem dksX3_isAccessed_0 : cX3_isAccessed.data.toList.drop 0 = dktX3_isAccessed_0 := by decide +kernel
theorem dX3_isAccessed_0 : decode cX3_isAccessed 0 = .ok (.aload_n 0, 1) := dk_42 (dk_at dksX3_isAccessed_0 0 rfl rfl)
theorem dX3_isAccessed_1 : decode cX3_isAccessed 1 = .ok (.iload_n 1, 1) := dk_27 (dk_at dksX3_isAccessed_0 1 rfl rfl)
theorem dX3_isAccessed_2 : decode cX3_isAccessed 2 = .ok (.putfield 19, 3) := dk_181 0 19 (dk_at dksX3_isAccessed_0 2 rfl rfl)
theorem dX3_isAccessed_5 : decode cX3_isAccessed 5 = .ok (.aload_n 0, 1) := dk_42 (dk_at dksX3_isAccessed_0 5 rfl rfl)
theorem dX3_isAccessed_6 : decode cX3_isAccessed 6 = .ok (.dup, 1) := dk_89 (dk_at dksX3_isAccessed_0 6 rfl rfl)
theorem dX3_isAccessed_7 : decode cX3_isAccessed 7 = .ok (.getfield 25, 3) := dk_180 0 25 (dk_at dksX3_isAccessed_0 7 rfl rfl)
theorem dX3_isAccessed_10 : decode cX3_isAccessed 10 = .ok (.iconst 1, 1) := dk_4 (dk_at dksX3_isAccessed_0 10 rfl rfl)
theorem dX3_isAccessed_11 : decode cX3_isAccessed 11 = .ok (.iadd, 1) := dk_96 (dk_at dksX3_isAccessed_0 11 rfl rfl)
theorem dX3_isAccessed_12 : decode cX3_isAccessed 12 = .ok (.putfield 25, 3) := dk_181 0 25 (dk_at dksX3_isAccessed_0 12 rfl rfl)
theorem dX3_isAccessed_15 : decode cX3_isAccessed 15 = .ok (.return_, 1) := dk_177 (dk_at dksX3_isAccessed_0 15 rfl rfl)
abbrev cX3_takes : ByteArray := prog_8_method_11_code
def yX3_takes : MethodName := ⟨RX3, "takes", "(IIZ)V"⟩
def dkwX3_takes_1 : List UInt8 := [180, 0, 40, 4, 27, 120, 2, 130, 126, 181, 0, 40, 177]
abbrev dktX3_takes_1 : List UInt8 := dkwX3_takes_1 ++ []
def dkwX3_takes_0 : List UInt8 := [42, 180, 0, 9, 27, 28, 79, 42, 29, 153, 0, 14, 42, 180, 0, 40, 4, 27, 120, 128, 167, 0, 13, 42]
abbrev dktX3_takes_0 : List UInt8 := dkwX3_takes_0 ++ dktX3_takes_1
theorem dksX3_takes_0 : cX3_takes.data.toList.drop 0 = dktX3_takes_0 := by decide +kernel
theorem dksX3_takes_1 : cX3_takes.data.toList.drop 24 = dktX3_takes_1 := dk_seg dksX3_takes_0 24 rfl rfl
theorem dX3_takes_0 : decode cX3_takes 0 = .ok (.aload_n 0, 1) := dk_42 (dk_at dksX3_takes_0 0 rfl rfl)
theorem dX3_takes_1 : decode cX3_takes 1 = .ok (.getfield 9, 3) := dk_180 0 9 (dk_at dksX3_takes_0 1 rfl rfl)
theorem dX3_takes_4 : decode cX3_takes 4 = .ok (.iload_n 1, 1) := dk_27 (dk_at dksX3_takes_0 4 rfl rfl)
theorem dX3_takes_5 : decode cX3_takes 5 = .ok (.iload_n 2, 1) := dk_28 (dk_at dksX3_takes_0 5 rfl rfl)
theorem dX3_takes_6 : decode cX3_takes 6 = .ok (.iastore, 1) := dk_79 (dk_at dksX3_takes_0 6 rfl rfl)
theorem dX3_takes_7 : decode cX3_takes 7 = .ok (.aload_n 0, 1) := dk_42 (dk_at dksX3_takes_0 7 rfl rfl)
theorem dX3_takes_8 : decode cX3_takes 8 = .ok (.iload_n 3, 1) := dk_29 (dk_at dksX3_takes_0 8 rfl rfl)
theorem dX3_takes_9 : decode cX3_takes 9 = .ok (.ifCond .eq 14, 3) := dk_153 0 14 (dk_at dksX3_takes_0 9 rfl rfl)
theorem dX3_takes_12 : decode cX3_takes 12 = .ok (.aload_n 0, 1) := dk_42 (dk_at dksX3_takes_0 12 rfl rfl)
theorem dX3_takes_13 : decode cX3_takes 13 = .ok (.getfield 40, 3) := dk_180 0 40 (dk_at dksX3_takes_0 13 rfl rfl)
theorem dX3_takes_16 : decode cX3_takes 16 = .ok (.iconst 1, 1) := dk_4 (dk_at dksX3_takes_0 16 rfl rfl)
theorem dX3_takes_17 : decode cX3_takes 17 = .ok (.iload_n 1, 1) := dk_27 (dk_at dksX3_takes_0 17 rfl rfl)
theorem dX3_takes_18 : decode cX3_takes 18 = .ok (.ishl, 1) := dk_120 (dk_at dksX3_takes_0 18 rfl rfl)
theorem dX3_takes_19 : decode cX3_takes 19 = .ok (.ior, 1) := dk_128 (dk_at dksX3_takes_0 19 rfl rfl)
theorem dX3_takes_20 : decode cX3_takes 20 = .ok (.goto 13, 3) := dk_167 0 13 (dk_at dksX3_takes_0 20 rfl rfl)
theorem dX3_takes_23 : decode cX3_takes 23 = .ok (.aload_n 0, 1) := dk_42 (dk_at dksX3_takes_0 23 rfl rfl)
theorem dX3_takes_24 : decode cX3_takes 24 = .ok (.getfield 40, 3) := dk_180 0 40 (dk_at dksX3_takes_1 0 rfl rfl)
theorem dX3_takes_27 : decode cX3_takes 27 = .ok (.iconst 1, 1) := dk_4 (dk_at dksX3_takes_1 3 rfl rfl)
theorem dX3_takes_28 : decode cX3_takes 28 = .ok (.iload_n 1, 1) := dk_27 (dk_at dksX3_takes_1 4 rfl rfl)
theorem dX3_takes_29 : decode cX3_takes 29 = .ok (.ishl, 1) := dk_120 (dk_at dksX3_takes_1 5 rfl rfl)
theorem dX3_takes_30 : decode cX3_takes 30 = .ok (.iconst (-1), 1) := dk_2 (dk_at dksX3_takes_1 6 rfl rfl)
theorem dX3_takes_31 : decode cX3_takes 31 = .ok (.ixor, 1) := dk_130 (dk_at dksX3_takes_1 7 rfl rfl)
theorem dX3_takes_32 : decode cX3_takes 32 = .ok (.iand, 1) := dk_126 (dk_at dksX3_takes_1 8 rfl rfl)
theorem dX3_takes_33 : decode cX3_takes 33 = .ok (.putfield 40, 3) := dk_181 0 40 (dk_at dksX3_takes_1 9 rfl rfl)
theorem dX3_takes_36 : decode cX3_takes 36 = .ok (.return_, 1) := dk_177 (dk_at dksX3_takes_1 12 rfl rfl)
abbrev cX3_becomesEmpty : ByteArray := prog_8_method_8_code
def yX3_becomesEmpty : MethodName := ⟨RX3, "becomesEmpty", "()V"⟩
def dkwX3_becomesEmpty_1 : List UInt8 := [181, 0, 22, 42, 2, 181, 0, 25, 177]
abbrev dktX3_becomesEmpty_1 : List UInt8 := dkwX3_becomesEmpty_1 ++ []
def dkwX3_becomesEmpty_0 : List UInt8 := [42, 2, 181, 0, 15, 42, 3, 181, 0, 40, 42, 3, 181, 0, 43, 42, 2, 181, 0, 19, 42, 2]
abbrev dktX3_becomesEmpty_0 : List UInt8 := dkwX3_becomesEmpty_0 ++ dktX3_becomesEmpty_1
theorem dksX3_becomesEmpty_0 : cX3_becomesEmpty.data.toList.drop 0 = dktX3_becomesEmpty_0 := by decide +kernel
theorem dksX3_becomesEmpty_1 : cX3_becomesEmpty.data.toList.drop 22 = dktX3_becomesEmpty_1 := dk_seg dksX3_becomesEmpty_0 22 rfl rfl
theorem dX3_becomesEmpty_0 : decode cX3_becomesEmpty 0 = .ok (.aload_n 0, 1) := dk_42 (dk_at dksX3_becomesEmpty_0 0 rfl rfl)
theorem dX3_becomesEmpty_1 : decode cX3_becomesEmpty 1 = .ok (.iconst (-1), 1) := dk_2 (dk_at dksX3_becomesEmpty_0 1 rfl rfl)
theorem dX3_becomesEmpty_2 : decode cX3_becomesEmpty 2 = .ok (.putfield 15, 3) := dk_181 0 15 (dk_at dksX3_becomesEmpty_0 2 rfl rfl)
theorem dX3_becomesEmpty_5 : decode cX3_becomesEmpty 5 = .ok (.aload_n 0, 1) := dk_42 (dk_at dksX3_becomesEmpty_0 5 rfl rfl)
theorem dX3_becomesEmpty_6 : decode cX3_becomesEmpty 6 = .ok (.iconst 0, 1) := dk_3 (dk_at dksX3_becomesEmpty_0 6 rfl rfl)
theorem dX3_becomesEmpty_7 : decode cX3_becomesEmpty 7 = .ok (.putfield 40, 3) := dk_181 0 40 (dk_at dksX3_becomesEmpty_0 7 rfl rfl)
theorem dX3_becomesEmpty_10 : decode cX3_becomesEmpty 10 = .ok (.aload_n 0, 1) := dk_42 (dk_at dksX3_becomesEmpty_0 10 rfl rfl)
theorem dX3_becomesEmpty_11 : decode cX3_becomesEmpty 11 = .ok (.iconst 0, 1) := dk_3 (dk_at dksX3_becomesEmpty_0 11 rfl rfl)
theorem dX3_becomesEmpty_12 : decode cX3_becomesEmpty 12 = .ok (.putfield 43, 3) := dk_181 0 43 (dk_at dksX3_becomesEmpty_0 12 rfl rfl)
theorem dX3_becomesEmpty_15 : decode cX3_becomesEmpty 15 = .ok (.aload_n 0, 1) := dk_42 (dk_at dksX3_becomesEmpty_0 15 rfl rfl)
theorem dX3_becomesEmpty_16 : decode cX3_becomesEmpty 16 = .ok (.iconst (-1), 1) := dk_2 (dk_at dksX3_becomesEmpty_0 16 rfl rfl)
theorem dX3_becomesEmpty_17 : decode cX3_becomesEmpty 17 = .ok (.putfield 19, 3) := dk_181 0 19 (dk_at dksX3_becomesEmpty_0 17 rfl rfl)
theorem dX3_becomesEmpty_20 : decode cX3_becomesEmpty 20 = .ok (.aload_n 0, 1) := dk_42 (dk_at dksX3_becomesEmpty_0 20 rfl rfl)
theorem dX3_becomesEmpty_21 : decode cX3_becomesEmpty 21 = .ok (.iconst (-1), 1) := dk_2 (dk_at dksX3_becomesEmpty_0 21 rfl rfl)
theorem dX3_becomesEmpty_22 : decode cX3_becomesEmpty 22 = .ok (.putfield 22, 3) := dk_181 0 22 (dk_at dksX3_becomesEmpty_1 0 rfl rfl)
theorem dX3_becomesEmpty_25 : decode cX3_becomesEmpty 25 = .ok (.aload_n 0, 1) := dk_42 (dk_at dksX3_becomesEmpty_1 3 rfl rfl)
theorem dX3_becomesEmpty_26 : decode cX3_becomesEmpty 26 = .ok (.iconst (-1), 1) := dk_2 (dk_at dksX3_becomesEmpty_1 4 rfl rfl)
theorem dX3_becomesEmpty_27 : decode cX3_becomesEmpty 27 = .ok (.putfield 25, 3) := dk_181 0 25 (dk_at dksX3_becomesEmpty_1 5 rfl rfl)
theorem dX3_becomesEmpty_30 : decode cX3_becomesEmpty 30 = .ok (.return_, 1) := dk_177 (dk_at dksX3_becomesEmpty_1 8 rfl rfl)
abbrev cX3_sign : ByteArray := prog_8_method_12_code
def yX3_sign : MethodName := ⟨RX3, "sign", "()Ljava/lang/String;"⟩
def dkwX3_sign_3 : List UInt8 := [176]
abbrev dktX3_sign_3 : List UInt8 := dkwX3_sign_3 ++ []
def dkwX3_sign_2 : List UInt8 := [167, 255, 242, 43, 42, 180, 0, 43, 153, 0, 8, 18, 71, 167, 0, 5, 18, 73, 182, 0, 75, 182, 0, 78]
abbrev dktX3_sign_2 : List UInt8 := dkwX3_sign_2 ++ dktX3_sign_3
def dkwX3_sign_1 : List UInt8 := [182, 0, 60, 87, 42, 182, 0, 64, 61, 28, 158, 0, 16, 43, 16, 42, 182, 0, 68, 87, 132, 2, 255]
abbrev dktX3_sign_1 : List UInt8 := dkwX3_sign_1 ++ dktX3_sign_2
def dkwX3_sign_0 : List UInt8 := [187, 0, 55, 89, 183, 0, 57, 76, 42, 182, 0, 47, 153, 0, 6, 18, 58, 176, 43, 42, 180, 0, 15]
abbrev dktX3_sign_0 : List UInt8 := dkwX3_sign_0 ++ dktX3_sign_1
theorem dksX3_sign_0 : cX3_sign.data.toList.drop 0 = dktX3_sign_0 := by decide +kernel
theorem dksX3_sign_1 : cX3_sign.data.toList.drop 23 = dktX3_sign_1 := dk_seg dksX3_sign_0 23 rfl rfl
theorem dksX3_sign_2 : cX3_sign.data.toList.drop 46 = dktX3_sign_2 := dk_seg dksX3_sign_1 23 rfl rfl
theorem dksX3_sign_3 : cX3_sign.data.toList.drop 70 = dktX3_sign_3 := dk_seg dksX3_sign_2 24 rfl rfl
theorem dX3_sign_0 : decode cX3_sign 0 = .ok (.new 55, 3) := dk_187 0 55 (dk_at dksX3_sign_0 0 rfl rfl)
theorem dX3_sign_3 : decode cX3_sign 3 = .ok (.dup, 1) := dk_89 (dk_at dksX3_sign_0 3 rfl rfl)
theorem dX3_sign_4 : decode cX3_sign 4 = .ok (.invokespecial 57, 3) := dk_183 0 57 (dk_at dksX3_sign_0 4 rfl rfl)
theorem dX3_sign_7 : decode cX3_sign 7 = .ok (.astore_n 1, 1) := dk_76 (dk_at dksX3_sign_0 7 rfl rfl)
theorem dX3_sign_8 : decode cX3_sign 8 = .ok (.aload_n 0, 1) := dk_42 (dk_at dksX3_sign_0 8 rfl rfl)
theorem dX3_sign_9 : decode cX3_sign 9 = .ok (.invokevirtual 47, 3) := dk_182 0 47 (dk_at dksX3_sign_0 9 rfl rfl)
theorem dX3_sign_12 : decode cX3_sign 12 = .ok (.ifCond .eq 6, 3) := dk_153 0 6 (dk_at dksX3_sign_0 12 rfl rfl)
theorem dX3_sign_15 : decode cX3_sign 15 = .ok (.ldc 58, 2) := dk_18 58 (dk_at dksX3_sign_0 15 rfl rfl)
theorem dX3_sign_17 : decode cX3_sign 17 = .ok (.areturn, 1) := dk_176 (dk_at dksX3_sign_0 17 rfl rfl)
theorem dX3_sign_18 : decode cX3_sign 18 = .ok (.aload_n 1, 1) := dk_43 (dk_at dksX3_sign_0 18 rfl rfl)
theorem dX3_sign_19 : decode cX3_sign 19 = .ok (.aload_n 0, 1) := dk_42 (dk_at dksX3_sign_0 19 rfl rfl)
theorem dX3_sign_20 : decode cX3_sign 20 = .ok (.getfield 15, 3) := dk_180 0 15 (dk_at dksX3_sign_0 20 rfl rfl)
theorem dX3_sign_23 : decode cX3_sign 23 = .ok (.invokevirtual 60, 3) := dk_182 0 60 (dk_at dksX3_sign_1 0 rfl rfl)
theorem dX3_sign_26 : decode cX3_sign 26 = .ok (.pop, 1) := dk_87 (dk_at dksX3_sign_1 3 rfl rfl)
theorem dX3_sign_27 : decode cX3_sign 27 = .ok (.aload_n 0, 1) := dk_42 (dk_at dksX3_sign_1 4 rfl rfl)
theorem dX3_sign_28 : decode cX3_sign 28 = .ok (.invokevirtual 64, 3) := dk_182 0 64 (dk_at dksX3_sign_1 5 rfl rfl)
theorem dX3_sign_31 : decode cX3_sign 31 = .ok (.istore_n 2, 1) := dk_61 (dk_at dksX3_sign_1 8 rfl rfl)
theorem dX3_sign_32 : decode cX3_sign 32 = .ok (.iload_n 2, 1) := dk_28 (dk_at dksX3_sign_1 9 rfl rfl)
theorem dX3_sign_33 : decode cX3_sign 33 = .ok (.ifCond .le 16, 3) := dk_158 0 16 (dk_at dksX3_sign_1 10 rfl rfl)
theorem dX3_sign_36 : decode cX3_sign 36 = .ok (.aload_n 1, 1) := dk_43 (dk_at dksX3_sign_1 13 rfl rfl)
theorem dX3_sign_37 : decode cX3_sign 37 = .ok (.bipush 42, 2) := dk_16 42 (dk_at dksX3_sign_1 14 rfl rfl)
theorem dX3_sign_39 : decode cX3_sign 39 = .ok (.invokevirtual 68, 3) := dk_182 0 68 (dk_at dksX3_sign_1 16 rfl rfl)
theorem dX3_sign_42 : decode cX3_sign 42 = .ok (.pop, 1) := dk_87 (dk_at dksX3_sign_1 19 rfl rfl)
theorem dX3_sign_43 : decode cX3_sign 43 = .ok (.iinc 2 (-1), 3) := dk_132 2 255 (dk_at dksX3_sign_1 20 rfl rfl)
theorem dX3_sign_46 : decode cX3_sign 46 = .ok (.goto (-14), 3) := dk_167 255 242 (dk_at dksX3_sign_2 0 rfl rfl)
theorem dX3_sign_49 : decode cX3_sign 49 = .ok (.aload_n 1, 1) := dk_43 (dk_at dksX3_sign_2 3 rfl rfl)
theorem dX3_sign_50 : decode cX3_sign 50 = .ok (.aload_n 0, 1) := dk_42 (dk_at dksX3_sign_2 4 rfl rfl)
theorem dX3_sign_51 : decode cX3_sign 51 = .ok (.getfield 43, 3) := dk_180 0 43 (dk_at dksX3_sign_2 5 rfl rfl)
theorem dX3_sign_54 : decode cX3_sign 54 = .ok (.ifCond .eq 8, 3) := dk_153 0 8 (dk_at dksX3_sign_2 8 rfl rfl)
theorem dX3_sign_57 : decode cX3_sign 57 = .ok (.ldc 71, 2) := dk_18 71 (dk_at dksX3_sign_2 11 rfl rfl)
theorem dX3_sign_59 : decode cX3_sign 59 = .ok (.goto 5, 3) := dk_167 0 5 (dk_at dksX3_sign_2 13 rfl rfl)
theorem dX3_sign_62 : decode cX3_sign 62 = .ok (.ldc 73, 2) := dk_18 73 (dk_at dksX3_sign_2 16 rfl rfl)
theorem dX3_sign_64 : decode cX3_sign 64 = .ok (.invokevirtual 75, 3) := dk_182 0 75 (dk_at dksX3_sign_2 18 rfl rfl)
theorem dX3_sign_67 : decode cX3_sign 67 = .ok (.invokevirtual 78, 3) := dk_182 0 78 (dk_at dksX3_sign_2 21 rfl rfl)
theorem dX3_sign_70 : decode cX3_sign 70 = .ok (.areturn, 1) := dk_176 (dk_at dksX3_sign_3 0 rfl rfl)
abbrev cX5_init : ByteArray := prog_10_method_1_code
def yX5_init : MethodName := ⟨RX5, "<init>", "(Ljava/lang/String;II)V"⟩
def dkwX5_init_0 : List UInt8 := [42, 183, 0, 1, 42, 43, 181, 0, 7, 42, 28, 181, 0, 13, 42, 29, 181, 0, 17, 177]
abbrev dktX5_init_0 : List UInt8 := dkwX5_init_0 ++ []
theorem dksX5_init_0 : cX5_init.data.toList.drop 0 = dktX5_init_0 := by decide +kernel
theorem dX5_init_0 : decode cX5_init 0 = .ok (.aload_n 0, 1) := dk_42 (dk_at dksX5_init_0 0 rfl rfl)
theorem dX5_init_1 : decode cX5_init 1 = .ok (.invokespecial 1, 3) := dk_183 0 1 (dk_at dksX5_init_0 1 rfl rfl)
theorem dX5_init_4 : decode cX5_init 4 = .ok (.aload_n 0, 1) := dk_42 (dk_at dksX5_init_0 4 rfl rfl)
theorem dX5_init_5 : decode cX5_init 5 = .ok (.aload_n 1, 1) := dk_43 (dk_at dksX5_init_0 5 rfl rfl)
theorem dX5_init_6 : decode cX5_init 6 = .ok (.putfield 7, 3) := dk_181 0 7 (dk_at dksX5_init_0 6 rfl rfl)
theorem dX5_init_9 : decode cX5_init 9 = .ok (.aload_n 0, 1) := dk_42 (dk_at dksX5_init_0 9 rfl rfl)
theorem dX5_init_10 : decode cX5_init 10 = .ok (.iload_n 2, 1) := dk_28 (dk_at dksX5_init_0 10 rfl rfl)
theorem dX5_init_11 : decode cX5_init 11 = .ok (.putfield 13, 3) := dk_181 0 13 (dk_at dksX5_init_0 11 rfl rfl)
theorem dX5_init_14 : decode cX5_init 14 = .ok (.aload_n 0, 1) := dk_42 (dk_at dksX5_init_0 14 rfl rfl)
theorem dX5_init_15 : decode cX5_init 15 = .ok (.iload_n 3, 1) := dk_29 (dk_at dksX5_init_0 15 rfl rfl)
theorem dX5_init_16 : decode cX5_init 16 = .ok (.putfield 17, 3) := dk_181 0 17 (dk_at dksX5_init_0 16 rfl rfl)
theorem dX5_init_19 : decode cX5_init 19 = .ok (.return_, 1) := dk_177 (dk_at dksX5_init_0 19 rfl rfl)
abbrev cX5_does : ByteArray := prog_10_method_2_code
def yX5_does : MethodName := ⟨RX5, "does", "(LWordCache$Machine;)I"⟩
def dkwX5_does_11 : List UInt8 := [180, 0, 13, 42, 180, 0, 17, 182, 0, 71, 172, 43, 42, 180, 0, 13, 182, 0, 74, 172]
abbrev dktX5_does_11 : List UInt8 := dkwX5_does_11 ++ []
def dkwX5_does_10 : List UInt8 := [180, 0, 13, 42, 180, 0, 17, 182, 0, 65, 172, 43, 42, 180, 0, 13, 182, 0, 68, 172, 43, 42]
abbrev dktX5_does_10 : List UInt8 := dkwX5_does_10 ++ dktX5_does_11
def dkwX5_does_9 : List UInt8 := [180, 0, 13, 182, 0, 56, 172, 43, 42, 180, 0, 13, 182, 0, 59, 172, 43, 182, 0, 62, 172, 43, 42]
abbrev dktX5_does_9 : List UInt8 := dkwX5_does_9 ++ dktX5_does_10
def dkwX5_does_8 : List UInt8 := [43, 42, 180, 0, 13, 182, 0, 46, 172, 43, 42, 180, 0, 13, 42, 180, 0, 17, 182, 0, 52, 172, 43, 42]
abbrev dktX5_does_8 : List UInt8 := dkwX5_does_8 ++ dktX5_does_9
def dkwX5_does_7 : List UInt8 := [170, 0, 0, 0, 0, 0, 0, 128, 0, 0, 0, 0, 0, 0, 0, 7, 0, 0, 0, 48, 0, 0, 0, 57, 0, 0, 0, 70, 0, 0, 0, 79, 0, 0, 0, 88, 0, 0, 0, 93, 0, 0, 0, 106, 0, 0, 0, 115]
abbrev dktX5_does_7 : List UInt8 := dkwX5_does_7 ++ dktX5_does_8
def dkwX5_does_6 : List UInt8 := [62, 167, 0, 15, 44, 18, 44, 182, 0, 28, 153, 0, 6, 16, 7, 62, 29]
abbrev dktX5_does_6 : List UInt8 := dkwX5_does_6 ++ dktX5_does_7
def dkwX5_does_5 : List UInt8 := [18, 40, 182, 0, 28, 153, 0, 35, 8, 62, 167, 0, 30, 44, 18, 42, 182, 0, 28, 153, 0, 21, 16, 6]
abbrev dktX5_does_5 : List UInt8 := dkwX5_does_5 ++ dktX5_does_6
def dkwX5_does_4 : List UInt8 := [153, 0, 63, 6, 62, 167, 0, 58, 44, 18, 38, 182, 0, 28, 153, 0, 49, 7, 62, 167, 0, 44, 44]
abbrev dktX5_does_4 : List UInt8 := dkwX5_does_4 ++ dktX5_does_5
def dkwX5_does_3 : List UInt8 := [62, 167, 0, 86, 44, 18, 34, 182, 0, 28, 153, 0, 77, 5, 62, 167, 0, 72, 44, 18, 36, 182, 0, 28]
abbrev dktX5_does_3 : List UInt8 := dkwX5_does_3 ++ dktX5_does_4
def dkwX5_does_2 : List UInt8 := [44, 18, 26, 182, 0, 28, 153, 0, 105, 3, 62, 167, 0, 100, 44, 18, 32, 182, 0, 28, 153, 0, 91, 4]
abbrev dktX5_does_2 : List UInt8 := dkwX5_does_2 ++ dktX5_does_3
def dkwX5_does_1 : List UInt8 := [171, 0, 0, 0, 184, 0, 0, 0, 8, 176, 107, 30, 86, 0, 0, 0, 143, 0, 1, 177, 149, 0, 0, 0, 101, 0, 48, 22, 108, 0, 0, 0, 115, 0, 53, 89, 150, 0, 0, 0, 73, 5, 208, 59, 4, 0, 0, 0, 129, 6, 133, 79, 161, 0, 0, 0, 172, 6, 147, 226, 118, 0, 0, 0, 157, 6, 194, 87, 223, 0, 0, 0, 87]
abbrev dktX5_does_1 : List UInt8 := dkwX5_does_1 ++ dktX5_does_2
def dkwX5_does_0 : List UInt8 := [42, 180, 0, 7, 77, 2, 62, 44, 182, 0, 20]
abbrev dktX5_does_0 : List UInt8 := dkwX5_does_0 ++ dktX5_does_1
theorem dksX5_does_0 : cX5_does.data.toList.drop 0 = dktX5_does_0 := by decide +kernel
theorem dksX5_does_1 : cX5_does.data.toList.drop 11 = dktX5_does_1 := dk_seg dksX5_does_0 11 rfl rfl
theorem dksX5_does_2 : cX5_does.data.toList.drop 84 = dktX5_does_2 := dk_seg dksX5_does_1 73 rfl rfl
theorem dksX5_does_3 : cX5_does.data.toList.drop 108 = dktX5_does_3 := dk_seg dksX5_does_2 24 rfl rfl
theorem dksX5_does_4 : cX5_does.data.toList.drop 132 = dktX5_does_4 := dk_seg dksX5_does_3 24 rfl rfl
theorem dksX5_does_5 : cX5_does.data.toList.drop 155 = dktX5_does_5 := dk_seg dksX5_does_4 23 rfl rfl
theorem dksX5_does_6 : cX5_does.data.toList.drop 179 = dktX5_does_6 := dk_seg dksX5_does_5 24 rfl rfl
theorem dksX5_does_7 : cX5_does.data.toList.drop 196 = dktX5_does_7 := dk_seg dksX5_does_6 17 rfl rfl
theorem dksX5_does_8 : cX5_does.data.toList.drop 244 = dktX5_does_8 := dk_seg dksX5_does_7 48 rfl rfl
theorem dksX5_does_9 : cX5_does.data.toList.drop 268 = dktX5_does_9 := dk_seg dksX5_does_8 24 rfl rfl
theorem dksX5_does_10 : cX5_does.data.toList.drop 291 = dktX5_does_10 := dk_seg dksX5_does_9 23 rfl rfl
theorem dksX5_does_11 : cX5_does.data.toList.drop 313 = dktX5_does_11 := dk_seg dksX5_does_10 22 rfl rfl
theorem dX5_does_0 : decode cX5_does 0 = .ok (.aload_n 0, 1) := dk_42 (dk_at dksX5_does_0 0 rfl rfl)
theorem dX5_does_1 : decode cX5_does 1 = .ok (.getfield 7, 3) := dk_180 0 7 (dk_at dksX5_does_0 1 rfl rfl)
theorem dX5_does_4 : decode cX5_does 4 = .ok (.astore_n 2, 1) := dk_77 (dk_at dksX5_does_0 4 rfl rfl)
theorem dX5_does_5 : decode cX5_does 5 = .ok (.iconst (-1), 1) := dk_2 (dk_at dksX5_does_0 5 rfl rfl)
theorem dX5_does_6 : decode cX5_does 6 = .ok (.istore_n 3, 1) := dk_62 (dk_at dksX5_does_0 6 rfl rfl)
theorem dX5_does_7 : decode cX5_does 7 = .ok (.aload_n 2, 1) := dk_44 (dk_at dksX5_does_0 7 rfl rfl)
theorem dX5_does_8 : decode cX5_does 8 = .ok (.invokevirtual 20, 3) := dk_182 0 20 (dk_at dksX5_does_0 8 rfl rfl)
theorem dX5_does_11 : decode cX5_does 11 = .ok (.lookupswitch 184 #[(-1335157162, 143), (110997, 101), (3151468, 115), (3496342, 73), (97532676, 129), (109399969, 172), (110355062, 157), (113399775, 87)], 73) := by decide +kernel
theorem dX5_does_84 : decode cX5_does 84 = .ok (.aload_n 2, 1) := dk_44 (dk_at dksX5_does_2 0 rfl rfl)
theorem dX5_does_85 : decode cX5_does 85 = .ok (.ldc 26, 2) := dk_18 26 (dk_at dksX5_does_2 1 rfl rfl)
theorem dX5_does_87 : decode cX5_does 87 = .ok (.invokevirtual 28, 3) := dk_182 0 28 (dk_at dksX5_does_2 3 rfl rfl)
theorem dX5_does_90 : decode cX5_does 90 = .ok (.ifCond .eq 105, 3) := dk_153 0 105 (dk_at dksX5_does_2 6 rfl rfl)
theorem dX5_does_93 : decode cX5_does 93 = .ok (.iconst 0, 1) := dk_3 (dk_at dksX5_does_2 9 rfl rfl)
theorem dX5_does_94 : decode cX5_does 94 = .ok (.istore_n 3, 1) := dk_62 (dk_at dksX5_does_2 10 rfl rfl)
theorem dX5_does_95 : decode cX5_does 95 = .ok (.goto 100, 3) := dk_167 0 100 (dk_at dksX5_does_2 11 rfl rfl)
theorem dX5_does_98 : decode cX5_does 98 = .ok (.aload_n 2, 1) := dk_44 (dk_at dksX5_does_2 14 rfl rfl)
theorem dX5_does_99 : decode cX5_does 99 = .ok (.ldc 32, 2) := dk_18 32 (dk_at dksX5_does_2 15 rfl rfl)
theorem dX5_does_101 : decode cX5_does 101 = .ok (.invokevirtual 28, 3) := dk_182 0 28 (dk_at dksX5_does_2 17 rfl rfl)
theorem dX5_does_104 : decode cX5_does 104 = .ok (.ifCond .eq 91, 3) := dk_153 0 91 (dk_at dksX5_does_2 20 rfl rfl)
theorem dX5_does_107 : decode cX5_does 107 = .ok (.iconst 1, 1) := dk_4 (dk_at dksX5_does_2 23 rfl rfl)
theorem dX5_does_108 : decode cX5_does 108 = .ok (.istore_n 3, 1) := dk_62 (dk_at dksX5_does_3 0 rfl rfl)
theorem dX5_does_109 : decode cX5_does 109 = .ok (.goto 86, 3) := dk_167 0 86 (dk_at dksX5_does_3 1 rfl rfl)
theorem dX5_does_112 : decode cX5_does 112 = .ok (.aload_n 2, 1) := dk_44 (dk_at dksX5_does_3 4 rfl rfl)
theorem dX5_does_113 : decode cX5_does 113 = .ok (.ldc 34, 2) := dk_18 34 (dk_at dksX5_does_3 5 rfl rfl)
theorem dX5_does_115 : decode cX5_does 115 = .ok (.invokevirtual 28, 3) := dk_182 0 28 (dk_at dksX5_does_3 7 rfl rfl)
theorem dX5_does_118 : decode cX5_does 118 = .ok (.ifCond .eq 77, 3) := dk_153 0 77 (dk_at dksX5_does_3 10 rfl rfl)
theorem dX5_does_121 : decode cX5_does 121 = .ok (.iconst 2, 1) := dk_5 (dk_at dksX5_does_3 13 rfl rfl)
theorem dX5_does_122 : decode cX5_does 122 = .ok (.istore_n 3, 1) := dk_62 (dk_at dksX5_does_3 14 rfl rfl)
theorem dX5_does_123 : decode cX5_does 123 = .ok (.goto 72, 3) := dk_167 0 72 (dk_at dksX5_does_3 15 rfl rfl)
theorem dX5_does_126 : decode cX5_does 126 = .ok (.aload_n 2, 1) := dk_44 (dk_at dksX5_does_3 18 rfl rfl)
theorem dX5_does_127 : decode cX5_does 127 = .ok (.ldc 36, 2) := dk_18 36 (dk_at dksX5_does_3 19 rfl rfl)
theorem dX5_does_129 : decode cX5_does 129 = .ok (.invokevirtual 28, 3) := dk_182 0 28 (dk_at dksX5_does_3 21 rfl rfl)
theorem dX5_does_132 : decode cX5_does 132 = .ok (.ifCond .eq 63, 3) := dk_153 0 63 (dk_at dksX5_does_4 0 rfl rfl)
theorem dX5_does_135 : decode cX5_does 135 = .ok (.iconst 3, 1) := dk_6 (dk_at dksX5_does_4 3 rfl rfl)
theorem dX5_does_136 : decode cX5_does 136 = .ok (.istore_n 3, 1) := dk_62 (dk_at dksX5_does_4 4 rfl rfl)
theorem dX5_does_137 : decode cX5_does 137 = .ok (.goto 58, 3) := dk_167 0 58 (dk_at dksX5_does_4 5 rfl rfl)
theorem dX5_does_140 : decode cX5_does 140 = .ok (.aload_n 2, 1) := dk_44 (dk_at dksX5_does_4 8 rfl rfl)
theorem dX5_does_141 : decode cX5_does 141 = .ok (.ldc 38, 2) := dk_18 38 (dk_at dksX5_does_4 9 rfl rfl)
theorem dX5_does_143 : decode cX5_does 143 = .ok (.invokevirtual 28, 3) := dk_182 0 28 (dk_at dksX5_does_4 11 rfl rfl)
theorem dX5_does_146 : decode cX5_does 146 = .ok (.ifCond .eq 49, 3) := dk_153 0 49 (dk_at dksX5_does_4 14 rfl rfl)
theorem dX5_does_149 : decode cX5_does 149 = .ok (.iconst 4, 1) := dk_7 (dk_at dksX5_does_4 17 rfl rfl)
theorem dX5_does_150 : decode cX5_does 150 = .ok (.istore_n 3, 1) := dk_62 (dk_at dksX5_does_4 18 rfl rfl)
theorem dX5_does_151 : decode cX5_does 151 = .ok (.goto 44, 3) := dk_167 0 44 (dk_at dksX5_does_4 19 rfl rfl)
theorem dX5_does_154 : decode cX5_does 154 = .ok (.aload_n 2, 1) := dk_44 (dk_at dksX5_does_4 22 rfl rfl)
theorem dX5_does_155 : decode cX5_does 155 = .ok (.ldc 40, 2) := dk_18 40 (dk_at dksX5_does_5 0 rfl rfl)
theorem dX5_does_157 : decode cX5_does 157 = .ok (.invokevirtual 28, 3) := dk_182 0 28 (dk_at dksX5_does_5 2 rfl rfl)
theorem dX5_does_160 : decode cX5_does 160 = .ok (.ifCond .eq 35, 3) := dk_153 0 35 (dk_at dksX5_does_5 5 rfl rfl)
theorem dX5_does_163 : decode cX5_does 163 = .ok (.iconst 5, 1) := dk_8 (dk_at dksX5_does_5 8 rfl rfl)
theorem dX5_does_164 : decode cX5_does 164 = .ok (.istore_n 3, 1) := dk_62 (dk_at dksX5_does_5 9 rfl rfl)
theorem dX5_does_165 : decode cX5_does 165 = .ok (.goto 30, 3) := dk_167 0 30 (dk_at dksX5_does_5 10 rfl rfl)
theorem dX5_does_168 : decode cX5_does 168 = .ok (.aload_n 2, 1) := dk_44 (dk_at dksX5_does_5 13 rfl rfl)
theorem dX5_does_169 : decode cX5_does 169 = .ok (.ldc 42, 2) := dk_18 42 (dk_at dksX5_does_5 14 rfl rfl)
theorem dX5_does_171 : decode cX5_does 171 = .ok (.invokevirtual 28, 3) := dk_182 0 28 (dk_at dksX5_does_5 16 rfl rfl)
theorem dX5_does_174 : decode cX5_does 174 = .ok (.ifCond .eq 21, 3) := dk_153 0 21 (dk_at dksX5_does_5 19 rfl rfl)
theorem dX5_does_177 : decode cX5_does 177 = .ok (.bipush 6, 2) := dk_16 6 (dk_at dksX5_does_5 22 rfl rfl)
theorem dX5_does_179 : decode cX5_does 179 = .ok (.istore_n 3, 1) := dk_62 (dk_at dksX5_does_6 0 rfl rfl)
theorem dX5_does_180 : decode cX5_does 180 = .ok (.goto 15, 3) := dk_167 0 15 (dk_at dksX5_does_6 1 rfl rfl)
theorem dX5_does_183 : decode cX5_does 183 = .ok (.aload_n 2, 1) := dk_44 (dk_at dksX5_does_6 4 rfl rfl)
theorem dX5_does_184 : decode cX5_does 184 = .ok (.ldc 44, 2) := dk_18 44 (dk_at dksX5_does_6 5 rfl rfl)
theorem dX5_does_186 : decode cX5_does 186 = .ok (.invokevirtual 28, 3) := dk_182 0 28 (dk_at dksX5_does_6 7 rfl rfl)
theorem dX5_does_189 : decode cX5_does 189 = .ok (.ifCond .eq 6, 3) := dk_153 0 6 (dk_at dksX5_does_6 10 rfl rfl)
theorem dX5_does_192 : decode cX5_does 192 = .ok (.bipush 7, 2) := dk_16 7 (dk_at dksX5_does_6 13 rfl rfl)
theorem dX5_does_194 : decode cX5_does 194 = .ok (.istore_n 3, 1) := dk_62 (dk_at dksX5_does_6 15 rfl rfl)
theorem dX5_does_195 : decode cX5_does 195 = .ok (.iload_n 3, 1) := dk_29 (dk_at dksX5_does_6 16 rfl rfl)
theorem dX5_does_196 : decode cX5_does 196 = .ok (.tableswitch 128 0 7 #[48, 57, 70, 79, 88, 93, 106, 115], 48) := by decide +kernel
theorem dX5_does_244 : decode cX5_does 244 = .ok (.aload_n 1, 1) := dk_43 (dk_at dksX5_does_8 0 rfl rfl)
theorem dX5_does_245 : decode cX5_does 245 = .ok (.aload_n 0, 1) := dk_42 (dk_at dksX5_does_8 1 rfl rfl)
theorem dX5_does_246 : decode cX5_does 246 = .ok (.getfield 13, 3) := dk_180 0 13 (dk_at dksX5_does_8 2 rfl rfl)
theorem dX5_does_249 : decode cX5_does 249 = .ok (.invokevirtual 46, 3) := dk_182 0 46 (dk_at dksX5_does_8 5 rfl rfl)
theorem dX5_does_252 : decode cX5_does 252 = .ok (.ireturn, 1) := dk_172 (dk_at dksX5_does_8 8 rfl rfl)
theorem dX5_does_253 : decode cX5_does 253 = .ok (.aload_n 1, 1) := dk_43 (dk_at dksX5_does_8 9 rfl rfl)
theorem dX5_does_254 : decode cX5_does 254 = .ok (.aload_n 0, 1) := dk_42 (dk_at dksX5_does_8 10 rfl rfl)
theorem dX5_does_255 : decode cX5_does 255 = .ok (.getfield 13, 3) := dk_180 0 13 (dk_at dksX5_does_8 11 rfl rfl)
theorem dX5_does_258 : decode cX5_does 258 = .ok (.aload_n 0, 1) := dk_42 (dk_at dksX5_does_8 14 rfl rfl)
theorem dX5_does_259 : decode cX5_does 259 = .ok (.getfield 17, 3) := dk_180 0 17 (dk_at dksX5_does_8 15 rfl rfl)
theorem dX5_does_262 : decode cX5_does 262 = .ok (.invokevirtual 52, 3) := dk_182 0 52 (dk_at dksX5_does_8 18 rfl rfl)
theorem dX5_does_265 : decode cX5_does 265 = .ok (.ireturn, 1) := dk_172 (dk_at dksX5_does_8 21 rfl rfl)
theorem dX5_does_266 : decode cX5_does 266 = .ok (.aload_n 1, 1) := dk_43 (dk_at dksX5_does_8 22 rfl rfl)
theorem dX5_does_267 : decode cX5_does 267 = .ok (.aload_n 0, 1) := dk_42 (dk_at dksX5_does_8 23 rfl rfl)
theorem dX5_does_268 : decode cX5_does 268 = .ok (.getfield 13, 3) := dk_180 0 13 (dk_at dksX5_does_9 0 rfl rfl)
theorem dX5_does_271 : decode cX5_does 271 = .ok (.invokevirtual 56, 3) := dk_182 0 56 (dk_at dksX5_does_9 3 rfl rfl)
theorem dX5_does_274 : decode cX5_does 274 = .ok (.ireturn, 1) := dk_172 (dk_at dksX5_does_9 6 rfl rfl)
theorem dX5_does_275 : decode cX5_does 275 = .ok (.aload_n 1, 1) := dk_43 (dk_at dksX5_does_9 7 rfl rfl)
theorem dX5_does_276 : decode cX5_does 276 = .ok (.aload_n 0, 1) := dk_42 (dk_at dksX5_does_9 8 rfl rfl)
theorem dX5_does_277 : decode cX5_does 277 = .ok (.getfield 13, 3) := dk_180 0 13 (dk_at dksX5_does_9 9 rfl rfl)
theorem dX5_does_280 : decode cX5_does 280 = .ok (.invokevirtual 59, 3) := dk_182 0 59 (dk_at dksX5_does_9 12 rfl rfl)
theorem dX5_does_283 : decode cX5_does 283 = .ok (.ireturn, 1) := dk_172 (dk_at dksX5_does_9 15 rfl rfl)
theorem dX5_does_284 : decode cX5_does 284 = .ok (.aload_n 1, 1) := dk_43 (dk_at dksX5_does_9 16 rfl rfl)
theorem dX5_does_285 : decode cX5_does 285 = .ok (.invokevirtual 62, 3) := dk_182 0 62 (dk_at dksX5_does_9 17 rfl rfl)
theorem dX5_does_288 : decode cX5_does 288 = .ok (.ireturn, 1) := dk_172 (dk_at dksX5_does_9 20 rfl rfl)
theorem dX5_does_289 : decode cX5_does 289 = .ok (.aload_n 1, 1) := dk_43 (dk_at dksX5_does_9 21 rfl rfl)
theorem dX5_does_290 : decode cX5_does 290 = .ok (.aload_n 0, 1) := dk_42 (dk_at dksX5_does_9 22 rfl rfl)
theorem dX5_does_291 : decode cX5_does 291 = .ok (.getfield 13, 3) := dk_180 0 13 (dk_at dksX5_does_10 0 rfl rfl)
theorem dX5_does_294 : decode cX5_does 294 = .ok (.aload_n 0, 1) := dk_42 (dk_at dksX5_does_10 3 rfl rfl)
theorem dX5_does_295 : decode cX5_does 295 = .ok (.getfield 17, 3) := dk_180 0 17 (dk_at dksX5_does_10 4 rfl rfl)
theorem dX5_does_298 : decode cX5_does 298 = .ok (.invokevirtual 65, 3) := dk_182 0 65 (dk_at dksX5_does_10 7 rfl rfl)
theorem dX5_does_301 : decode cX5_does 301 = .ok (.ireturn, 1) := dk_172 (dk_at dksX5_does_10 10 rfl rfl)
theorem dX5_does_302 : decode cX5_does 302 = .ok (.aload_n 1, 1) := dk_43 (dk_at dksX5_does_10 11 rfl rfl)
theorem dX5_does_303 : decode cX5_does 303 = .ok (.aload_n 0, 1) := dk_42 (dk_at dksX5_does_10 12 rfl rfl)
theorem dX5_does_304 : decode cX5_does 304 = .ok (.getfield 13, 3) := dk_180 0 13 (dk_at dksX5_does_10 13 rfl rfl)
theorem dX5_does_307 : decode cX5_does 307 = .ok (.invokevirtual 68, 3) := dk_182 0 68 (dk_at dksX5_does_10 16 rfl rfl)
theorem dX5_does_310 : decode cX5_does 310 = .ok (.ireturn, 1) := dk_172 (dk_at dksX5_does_10 19 rfl rfl)
theorem dX5_does_311 : decode cX5_does 311 = .ok (.aload_n 1, 1) := dk_43 (dk_at dksX5_does_10 20 rfl rfl)
theorem dX5_does_312 : decode cX5_does 312 = .ok (.aload_n 0, 1) := dk_42 (dk_at dksX5_does_10 21 rfl rfl)
theorem dX5_does_313 : decode cX5_does 313 = .ok (.getfield 13, 3) := dk_180 0 13 (dk_at dksX5_does_11 0 rfl rfl)
theorem dX5_does_316 : decode cX5_does 316 = .ok (.aload_n 0, 1) := dk_42 (dk_at dksX5_does_11 3 rfl rfl)
theorem dX5_does_317 : decode cX5_does 317 = .ok (.getfield 17, 3) := dk_180 0 17 (dk_at dksX5_does_11 4 rfl rfl)
theorem dX5_does_320 : decode cX5_does 320 = .ok (.invokevirtual 71, 3) := dk_182 0 71 (dk_at dksX5_does_11 7 rfl rfl)
theorem dX5_does_323 : decode cX5_does 323 = .ok (.ireturn, 1) := dk_172 (dk_at dksX5_does_11 10 rfl rfl)
theorem dX5_does_324 : decode cX5_does 324 = .ok (.aload_n 1, 1) := dk_43 (dk_at dksX5_does_11 11 rfl rfl)
theorem dX5_does_325 : decode cX5_does 325 = .ok (.aload_n 0, 1) := dk_42 (dk_at dksX5_does_11 12 rfl rfl)
theorem dX5_does_326 : decode cX5_does 326 = .ok (.getfield 13, 3) := dk_180 0 13 (dk_at dksX5_does_11 13 rfl rfl)
theorem dX5_does_329 : decode cX5_does 329 = .ok (.invokevirtual 74, 3) := dk_182 0 74 (dk_at dksX5_does_11 16 rfl rfl)
theorem dX5_does_332 : decode cX5_does 332 = .ok (.ireturn, 1) := dk_172 (dk_at dksX5_does_11 19 rfl rfl)
abbrev cX6_init : ByteArray := prog_12_method_1_code
def yX6_init : MethodName := ⟨RX6, "<init>", "(II)V"⟩
def dkwX6_init_0 : List UInt8 := [42, 27, 28, 1, 183, 0, 1, 177]
abbrev dktX6_init_0 : List UInt8 := dkwX6_init_0 ++ []
theorem dksX6_init_0 : cX6_init.data.toList.drop 0 = dktX6_init_0 := by decide +kernel
theorem dX6_init_0 : decode cX6_init 0 = .ok (.aload_n 0, 1) := dk_42 (dk_at dksX6_init_0 0 rfl rfl)
theorem dX6_init_1 : decode cX6_init 1 = .ok (.iload_n 1, 1) := dk_27 (dk_at dksX6_init_0 1 rfl rfl)
theorem dX6_init_2 : decode cX6_init 2 = .ok (.iload_n 2, 1) := dk_28 (dk_at dksX6_init_0 2 rfl rfl)
theorem dX6_init_3 : decode cX6_init 3 = .ok (.aconst_null, 1) := dk_1 (dk_at dksX6_init_0 3 rfl rfl)
theorem dX6_init_4 : decode cX6_init 4 = .ok (.invokespecial 1, 3) := dk_183 0 1 (dk_at dksX6_init_0 4 rfl rfl)
theorem dX6_init_7 : decode cX6_init 7 = .ok (.return_, 1) := dk_177 (dk_at dksX6_init_0 7 rfl rfl)
abbrev cX6_init_2 : ByteArray := prog_12_method_2_code
def yX6_init_2 : MethodName := ⟨RX6, "<init>", "(IILWordCache$Refused;)V"⟩
def dkwX6_init_2_0 : List UInt8 := [42, 183, 0, 7, 42, 27, 181, 0, 12, 42, 28, 181, 0, 16, 42, 45, 181, 0, 19, 177]
abbrev dktX6_init_2_0 : List UInt8 := dkwX6_init_2_0 ++ []
theorem dksX6_init_2_0 : cX6_init_2.data.toList.drop 0 = dktX6_init_2_0 := by decide +kernel
theorem dX6_init_2_0 : decode cX6_init_2 0 = .ok (.aload_n 0, 1) := dk_42 (dk_at dksX6_init_2_0 0 rfl rfl)
theorem dX6_init_2_1 : decode cX6_init_2 1 = .ok (.invokespecial 7, 3) := dk_183 0 7 (dk_at dksX6_init_2_0 1 rfl rfl)
theorem dX6_init_2_4 : decode cX6_init_2 4 = .ok (.aload_n 0, 1) := dk_42 (dk_at dksX6_init_2_0 4 rfl rfl)
theorem dX6_init_2_5 : decode cX6_init_2 5 = .ok (.iload_n 1, 1) := dk_27 (dk_at dksX6_init_2_0 5 rfl rfl)
theorem dX6_init_2_6 : decode cX6_init_2 6 = .ok (.putfield 12, 3) := dk_181 0 12 (dk_at dksX6_init_2_0 6 rfl rfl)
theorem dX6_init_2_9 : decode cX6_init_2 9 = .ok (.aload_n 0, 1) := dk_42 (dk_at dksX6_init_2_0 9 rfl rfl)
theorem dX6_init_2_10 : decode cX6_init_2 10 = .ok (.iload_n 2, 1) := dk_28 (dk_at dksX6_init_2_0 10 rfl rfl)
theorem dX6_init_2_11 : decode cX6_init_2 11 = .ok (.putfield 16, 3) := dk_181 0 16 (dk_at dksX6_init_2_0 11 rfl rfl)
theorem dX6_init_2_14 : decode cX6_init_2 14 = .ok (.aload_n 0, 1) := dk_42 (dk_at dksX6_init_2_0 14 rfl rfl)
theorem dX6_init_2_15 : decode cX6_init_2 15 = .ok (.aload_n 3, 1) := dk_45 (dk_at dksX6_init_2_0 15 rfl rfl)
theorem dX6_init_2_16 : decode cX6_init_2 16 = .ok (.putfield 19, 3) := dk_181 0 19 (dk_at dksX6_init_2_0 16 rfl rfl)
theorem dX6_init_2_19 : decode cX6_init_2 19 = .ok (.return_, 1) := dk_177 (dk_at dksX6_init_2_0 19 rfl rfl)
abbrev cX7_compare : ByteArray := prog_7_method_2_code
def yX7_compare : MethodName := ⟨RX7, "compare", "(LWordCache$Line;LWordCache$Line;)I"⟩
def dkwX7_compare_0 : List UInt8 := [43, 180, 0, 7, 44, 180, 0, 7, 100, 172]
abbrev dktX7_compare_0 : List UInt8 := dkwX7_compare_0 ++ []
theorem dksX7_compare_0 : cX7_compare.data.toList.drop 0 = dktX7_compare_0 := by decide +kernel
theorem dX7_compare_0 : decode cX7_compare 0 = .ok (.aload_n 1, 1) := dk_43 (dk_at dksX7_compare_0 0 rfl rfl)
theorem dX7_compare_1 : decode cX7_compare 1 = .ok (.getfield 7, 3) := dk_180 0 7 (dk_at dksX7_compare_0 1 rfl rfl)
theorem dX7_compare_4 : decode cX7_compare 4 = .ok (.aload_n 2, 1) := dk_44 (dk_at dksX7_compare_0 4 rfl rfl)
theorem dX7_compare_5 : decode cX7_compare 5 = .ok (.getfield 7, 3) := dk_180 0 7 (dk_at dksX7_compare_0 5 rfl rfl)
theorem dX7_compare_8 : decode cX7_compare 8 = .ok (.isub, 1) := dk_100 (dk_at dksX7_compare_0 8 rfl rfl)
theorem dX7_compare_9 : decode cX7_compare 9 = .ok (.ireturn, 1) := dk_172 (dk_at dksX7_compare_0 9 rfl rfl)
abbrev cX7_compare_2 : ByteArray := prog_7_method_3_code
def yX7_compare_2 : MethodName := ⟨RX7, "compare", "(Ljava/lang/Object;Ljava/lang/Object;)I"⟩
def dkwX7_compare_2_0 : List UInt8 := [42, 43, 192, 0, 8, 44, 192, 0, 8, 182, 0, 13, 172]
abbrev dktX7_compare_2_0 : List UInt8 := dkwX7_compare_2_0 ++ []
theorem dksX7_compare_2_0 : cX7_compare_2.data.toList.drop 0 = dktX7_compare_2_0 := by decide +kernel
theorem dX7_compare_2_0 : decode cX7_compare_2 0 = .ok (.aload_n 0, 1) := dk_42 (dk_at dksX7_compare_2_0 0 rfl rfl)
theorem dX7_compare_2_1 : decode cX7_compare_2 1 = .ok (.aload_n 1, 1) := dk_43 (dk_at dksX7_compare_2_0 1 rfl rfl)
theorem dX7_compare_2_2 : decode cX7_compare_2 2 = .ok (.checkcast 8, 3) := dk_192 0 8 (dk_at dksX7_compare_2_0 2 rfl rfl)
theorem dX7_compare_2_5 : decode cX7_compare_2 5 = .ok (.aload_n 2, 1) := dk_44 (dk_at dksX7_compare_2_0 5 rfl rfl)
theorem dX7_compare_2_6 : decode cX7_compare_2 6 = .ok (.checkcast 8, 3) := dk_192 0 8 (dk_at dksX7_compare_2_0 6 rfl rfl)
theorem dX7_compare_2_9 : decode cX7_compare_2 9 = .ok (.invokevirtual 13, 3) := dk_182 0 13 (dk_at dksX7_compare_2_0 9 rfl rfl)
theorem dX7_compare_2_12 : decode cX7_compare_2 12 = .ok (.ireturn, 1) := dk_172 (dk_at dksX7_compare_2_0 12 rfl rfl)
abbrev cX7_init : ByteArray := prog_7_method_1_code
def yX7_init : MethodName := ⟨RX7, "<init>", "()V"⟩
theorem dX7_init_0 : decode cX7_init 0 = .ok (.aload_n 0, 1) := by decide +kernel
theorem dX7_init_1 : decode cX7_init 1 = .ok (.invokespecial 1, 3) := by decide +kernel
theorem dX7_init_4 : decode cX7_init 4 = .ok (.return_, 1) := by decide +kernel
abbrev cX8_compare : ByteArray := prog_4_method_3_code
def yX8_compare : MethodName := ⟨RX8, "compare", "(Ljava/lang/Object;Ljava/lang/Object;)I"⟩
def dkwX8_compare_0 : List UInt8 := [42, 43, 192, 0, 8, 44, 192, 0, 8, 182, 0, 13, 172]
abbrev dktX8_compare_0 : List UInt8 := dkwX8_compare_0 ++ []
theorem dksX8_compare_0 : cX8_compare.data.toList.drop 0 = dktX8_compare_0 := by decide +kernel
theorem dX8_compare_0 : decode cX8_compare 0 = .ok (.aload_n 0, 1) := dk_42 (dk_at dksX8_compare_0 0 rfl rfl)
theorem dX8_compare_1 : decode cX8_compare 1 = .ok (.aload_n 1, 1) := dk_43 (dk_at dksX8_compare_0 1 rfl rfl)
theorem dX8_compare_2 : decode cX8_compare 2 = .ok (.checkcast 8, 3) := dk_192 0 8 (dk_at dksX8_compare_0 2 rfl rfl)
theorem dX8_compare_5 : decode cX8_compare 5 = .ok (.aload_n 2, 1) := dk_44 (dk_at dksX8_compare_0 5 rfl rfl)
theorem dX8_compare_6 : decode cX8_compare 6 = .ok (.checkcast 8, 3) := dk_192 0 8 (dk_at dksX8_compare_0 6 rfl rfl)
theorem dX8_compare_9 : decode cX8_compare 9 = .ok (.invokevirtual 13, 3) := dk_182 0 13 (dk_at dksX8_compare_0 9 rfl rfl)
theorem dX8_compare_12 : decode cX8_compare 12 = .ok (.ireturn, 1) := dk_172 (dk_at dksX8_compare_0 12 rfl rfl)
abbrev cX8_compare_2 : ByteArray := prog_4_method_2_code
def yX8_compare_2 : MethodName := ⟨RX8, "compare", "(LWordCache$Line;LWordCache$Line;)I"⟩
def dkwX8_compare_2_0 : List UInt8 := [43, 180, 0, 7, 44, 180, 0, 7, 100, 172]
abbrev dktX8_compare_2_0 : List UInt8 := dkwX8_compare_2_0 ++ []
theorem dksX8_compare_2_0 : cX8_compare_2.data.toList.drop 0 = dktX8_compare_2_0 := by decide +kernel
theorem dX8_compare_2_0 : decode cX8_compare_2 0 = .ok (.aload_n 1, 1) := dk_43 (dk_at dksX8_compare_2_0 0 rfl rfl)
theorem dX8_compare_2_1 : decode cX8_compare_2 1 = .ok (.getfield 7, 3) := dk_180 0 7 (dk_at dksX8_compare_2_0 1 rfl rfl)
theorem dX8_compare_2_4 : decode cX8_compare_2 4 = .ok (.aload_n 2, 1) := dk_44 (dk_at dksX8_compare_2_0 4 rfl rfl)
theorem dX8_compare_2_5 : decode cX8_compare_2 5 = .ok (.getfield 7, 3) := dk_180 0 7 (dk_at dksX8_compare_2_0 5 rfl rfl)
theorem dX8_compare_2_8 : decode cX8_compare_2 8 = .ok (.isub, 1) := dk_100 (dk_at dksX8_compare_2_0 8 rfl rfl)
theorem dX8_compare_2_9 : decode cX8_compare_2 9 = .ok (.ireturn, 1) := dk_172 (dk_at dksX8_compare_2_0 9 rfl rfl)
abbrev cX8_init : ByteArray := prog_4_method_1_code
def yX8_init : MethodName := ⟨RX8, "<init>", "()V"⟩
theorem dX8_init_0 : decode cX8_init 0 = .ok (.aload_n 0, 1) := by decide +kernel
theorem dX8_init_1 : decode cX8_init 1 = .ok (.invokespecial 1, 3) := by decide +kernel
theorem dX8_init_4 : decode cX8_init 4 = .ok (.return_, 1) := by decide +kernel
abbrev cX9_compare : ByteArray := prog_5_method_3_code
def yX9_compare : MethodName := ⟨RX9, "compare", "(Ljava/lang/Object;Ljava/lang/Object;)I"⟩
def dkwX9_compare_0 : List UInt8 := [42, 43, 192, 0, 8, 44, 192, 0, 8, 182, 0, 17, 172]
abbrev dktX9_compare_0 : List UInt8 := dkwX9_compare_0 ++ []
theorem dksX9_compare_0 : cX9_compare.data.toList.drop 0 = dktX9_compare_0 := by decide +kernel
theorem dX9_compare_0 : decode cX9_compare 0 = .ok (.aload_n 0, 1) := dk_42 (dk_at dksX9_compare_0 0 rfl rfl)
theorem dX9_compare_1 : decode cX9_compare 1 = .ok (.aload_n 1, 1) := dk_43 (dk_at dksX9_compare_0 1 rfl rfl)
theorem dX9_compare_2 : decode cX9_compare 2 = .ok (.checkcast 8, 3) := dk_192 0 8 (dk_at dksX9_compare_0 2 rfl rfl)
theorem dX9_compare_5 : decode cX9_compare 5 = .ok (.aload_n 2, 1) := dk_44 (dk_at dksX9_compare_0 5 rfl rfl)
theorem dX9_compare_6 : decode cX9_compare 6 = .ok (.checkcast 8, 3) := dk_192 0 8 (dk_at dksX9_compare_0 6 rfl rfl)
theorem dX9_compare_9 : decode cX9_compare 9 = .ok (.invokevirtual 17, 3) := dk_182 0 17 (dk_at dksX9_compare_0 9 rfl rfl)
theorem dX9_compare_12 : decode cX9_compare 12 = .ok (.ireturn, 1) := dk_172 (dk_at dksX9_compare_0 12 rfl rfl)
abbrev cX9_compare_2 : ByteArray := prog_5_method_2_code
def yX9_compare_2 : MethodName := ⟨RX9, "compare", "(LWordCache$Line;LWordCache$Line;)I"⟩
def dkwX9_compare_2_1 : List UInt8 := [43, 44, 183, 0, 13, 172]
abbrev dktX9_compare_2_1 : List UInt8 := dkwX9_compare_2_1 ++ []
def dkwX9_compare_2_0 : List UInt8 := [43, 180, 0, 7, 44, 180, 0, 7, 159, 0, 15, 43, 180, 0, 7, 44, 180, 0, 7, 100, 167, 0, 9, 42]
abbrev dktX9_compare_2_0 : List UInt8 := dkwX9_compare_2_0 ++ dktX9_compare_2_1
theorem dksX9_compare_2_0 : cX9_compare_2.data.toList.drop 0 = dktX9_compare_2_0 := by decide +kernel
theorem dksX9_compare_2_1 : cX9_compare_2.data.toList.drop 24 = dktX9_compare_2_1 := dk_seg dksX9_compare_2_0 24 rfl rfl
theorem dX9_compare_2_0 : decode cX9_compare_2 0 = .ok (.aload_n 1, 1) := dk_43 (dk_at dksX9_compare_2_0 0 rfl rfl)
theorem dX9_compare_2_1 : decode cX9_compare_2 1 = .ok (.getfield 7, 3) := dk_180 0 7 (dk_at dksX9_compare_2_0 1 rfl rfl)
theorem dX9_compare_2_4 : decode cX9_compare_2 4 = .ok (.aload_n 2, 1) := dk_44 (dk_at dksX9_compare_2_0 4 rfl rfl)
theorem dX9_compare_2_5 : decode cX9_compare_2 5 = .ok (.getfield 7, 3) := dk_180 0 7 (dk_at dksX9_compare_2_0 5 rfl rfl)
theorem dX9_compare_2_8 : decode cX9_compare_2 8 = .ok (.if_icmp .eq 15, 3) := dk_159 0 15 (dk_at dksX9_compare_2_0 8 rfl rfl)
theorem dX9_compare_2_11 : decode cX9_compare_2 11 = .ok (.aload_n 1, 1) := dk_43 (dk_at dksX9_compare_2_0 11 rfl rfl)
theorem dX9_compare_2_12 : decode cX9_compare_2 12 = .ok (.getfield 7, 3) := dk_180 0 7 (dk_at dksX9_compare_2_0 12 rfl rfl)
theorem dX9_compare_2_15 : decode cX9_compare_2 15 = .ok (.aload_n 2, 1) := dk_44 (dk_at dksX9_compare_2_0 15 rfl rfl)
theorem dX9_compare_2_16 : decode cX9_compare_2 16 = .ok (.getfield 7, 3) := dk_180 0 7 (dk_at dksX9_compare_2_0 16 rfl rfl)
theorem dX9_compare_2_19 : decode cX9_compare_2 19 = .ok (.isub, 1) := dk_100 (dk_at dksX9_compare_2_0 19 rfl rfl)
theorem dX9_compare_2_20 : decode cX9_compare_2 20 = .ok (.goto 9, 3) := dk_167 0 9 (dk_at dksX9_compare_2_0 20 rfl rfl)
theorem dX9_compare_2_23 : decode cX9_compare_2 23 = .ok (.aload_n 0, 1) := dk_42 (dk_at dksX9_compare_2_0 23 rfl rfl)
theorem dX9_compare_2_24 : decode cX9_compare_2 24 = .ok (.aload_n 1, 1) := dk_43 (dk_at dksX9_compare_2_1 0 rfl rfl)
theorem dX9_compare_2_25 : decode cX9_compare_2 25 = .ok (.aload_n 2, 1) := dk_44 (dk_at dksX9_compare_2_1 1 rfl rfl)
theorem dX9_compare_2_26 : decode cX9_compare_2 26 = .ok (.invokespecial 13, 3) := dk_183 0 13 (dk_at dksX9_compare_2_1 2 rfl rfl)
theorem dX9_compare_2_29 : decode cX9_compare_2 29 = .ok (.ireturn, 1) := dk_172 (dk_at dksX9_compare_2_1 5 rfl rfl)
abbrev cX9_init : ByteArray := prog_5_method_1_code
def yX9_init : MethodName := ⟨RX9, "<init>", "()V"⟩
theorem dX9_init_0 : decode cX9_init 0 = .ok (.aload_n 0, 1) := by decide +kernel
theorem dX9_init_1 : decode cX9_init 1 = .ok (.invokespecial 1, 3) := by decide +kernel
theorem dX9_init_4 : decode cX9_init 4 = .ok (.return_, 1) := by decide +kernel
abbrev cX10_compare : ByteArray := prog_6_method_3_code
def yX10_compare : MethodName := ⟨RX10, "compare", "(Ljava/lang/Object;Ljava/lang/Object;)I"⟩
def dkwX10_compare_0 : List UInt8 := [42, 43, 192, 0, 8, 44, 192, 0, 8, 182, 0, 17, 172]
abbrev dktX10_compare_0 : List UInt8 := dkwX10_compare_0 ++ []
theorem dksX10_compare_0 : cX10_compare.data.toList.drop 0 = dktX10_compare_0 := by decide +kernel
theorem dX10_compare_0 : decode cX10_compare 0 = .ok (.aload_n 0, 1) := dk_42 (dk_at dksX10_compare_0 0 rfl rfl)
theorem dX10_compare_1 : decode cX10_compare 1 = .ok (.aload_n 1, 1) := dk_43 (dk_at dksX10_compare_0 1 rfl rfl)
theorem dX10_compare_2 : decode cX10_compare 2 = .ok (.checkcast 8, 3) := dk_192 0 8 (dk_at dksX10_compare_0 2 rfl rfl)
theorem dX10_compare_5 : decode cX10_compare 5 = .ok (.aload_n 2, 1) := dk_44 (dk_at dksX10_compare_0 5 rfl rfl)
theorem dX10_compare_6 : decode cX10_compare 6 = .ok (.checkcast 8, 3) := dk_192 0 8 (dk_at dksX10_compare_0 6 rfl rfl)
theorem dX10_compare_9 : decode cX10_compare 9 = .ok (.invokevirtual 17, 3) := dk_182 0 17 (dk_at dksX10_compare_0 9 rfl rfl)
theorem dX10_compare_12 : decode cX10_compare 12 = .ok (.ireturn, 1) := dk_172 (dk_at dksX10_compare_0 12 rfl rfl)
abbrev cX10_compare_2 : ByteArray := prog_6_method_2_code
def yX10_compare_2 : MethodName := ⟨RX10, "compare", "(LWordCache$Line;LWordCache$Line;)I"⟩
def dkwX10_compare_2_1 : List UInt8 := [172]
abbrev dktX10_compare_2_1 : List UInt8 := dkwX10_compare_2_1 ++ []
def dkwX10_compare_2_0 : List UInt8 := [43, 182, 0, 7, 44, 182, 0, 7, 100, 62, 29, 153, 0, 7, 29, 167, 0, 9, 42, 43, 44, 183, 0, 13]
abbrev dktX10_compare_2_0 : List UInt8 := dkwX10_compare_2_0 ++ dktX10_compare_2_1
theorem dksX10_compare_2_0 : cX10_compare_2.data.toList.drop 0 = dktX10_compare_2_0 := by decide +kernel
theorem dksX10_compare_2_1 : cX10_compare_2.data.toList.drop 24 = dktX10_compare_2_1 := dk_seg dksX10_compare_2_0 24 rfl rfl
theorem dX10_compare_2_0 : decode cX10_compare_2 0 = .ok (.aload_n 1, 1) := dk_43 (dk_at dksX10_compare_2_0 0 rfl rfl)
theorem dX10_compare_2_1 : decode cX10_compare_2 1 = .ok (.invokevirtual 7, 3) := dk_182 0 7 (dk_at dksX10_compare_2_0 1 rfl rfl)
theorem dX10_compare_2_4 : decode cX10_compare_2 4 = .ok (.aload_n 2, 1) := dk_44 (dk_at dksX10_compare_2_0 4 rfl rfl)
theorem dX10_compare_2_5 : decode cX10_compare_2 5 = .ok (.invokevirtual 7, 3) := dk_182 0 7 (dk_at dksX10_compare_2_0 5 rfl rfl)
theorem dX10_compare_2_8 : decode cX10_compare_2 8 = .ok (.isub, 1) := dk_100 (dk_at dksX10_compare_2_0 8 rfl rfl)
theorem dX10_compare_2_9 : decode cX10_compare_2 9 = .ok (.istore_n 3, 1) := dk_62 (dk_at dksX10_compare_2_0 9 rfl rfl)
theorem dX10_compare_2_10 : decode cX10_compare_2 10 = .ok (.iload_n 3, 1) := dk_29 (dk_at dksX10_compare_2_0 10 rfl rfl)
theorem dX10_compare_2_11 : decode cX10_compare_2 11 = .ok (.ifCond .eq 7, 3) := dk_153 0 7 (dk_at dksX10_compare_2_0 11 rfl rfl)
theorem dX10_compare_2_14 : decode cX10_compare_2 14 = .ok (.iload_n 3, 1) := dk_29 (dk_at dksX10_compare_2_0 14 rfl rfl)
theorem dX10_compare_2_15 : decode cX10_compare_2 15 = .ok (.goto 9, 3) := dk_167 0 9 (dk_at dksX10_compare_2_0 15 rfl rfl)
theorem dX10_compare_2_18 : decode cX10_compare_2 18 = .ok (.aload_n 0, 1) := dk_42 (dk_at dksX10_compare_2_0 18 rfl rfl)
theorem dX10_compare_2_19 : decode cX10_compare_2 19 = .ok (.aload_n 1, 1) := dk_43 (dk_at dksX10_compare_2_0 19 rfl rfl)
theorem dX10_compare_2_20 : decode cX10_compare_2 20 = .ok (.aload_n 2, 1) := dk_44 (dk_at dksX10_compare_2_0 20 rfl rfl)
theorem dX10_compare_2_21 : decode cX10_compare_2 21 = .ok (.invokespecial 13, 3) := dk_183 0 13 (dk_at dksX10_compare_2_0 21 rfl rfl)
theorem dX10_compare_2_24 : decode cX10_compare_2 24 = .ok (.ireturn, 1) := dk_172 (dk_at dksX10_compare_2_1 0 rfl rfl)
abbrev cX10_init : ByteArray := prog_6_method_1_code
def yX10_init : MethodName := ⟨RX10, "<init>", "()V"⟩
theorem dX10_init_0 : decode cX10_init 0 = .ok (.aload_n 0, 1) := by decide +kernel
theorem dX10_init_1 : decode cX10_init 1 = .ok (.invokespecial 1, 3) := by decide +kernel
theorem dX10_init_4 : decode cX10_init 4 = .ok (.return_, 1) := by decide +kernel
abbrev cX11_compare : ByteArray := prog_3_method_3_code
def yX11_compare : MethodName := ⟨RX11, "compare", "(Ljava/lang/Object;Ljava/lang/Object;)I"⟩
def dkwX11_compare_0 : List UInt8 := [42, 43, 192, 0, 8, 44, 192, 0, 8, 182, 0, 19, 172]
abbrev dktX11_compare_0 : List UInt8 := dkwX11_compare_0 ++ []
theorem dksX11_compare_0 : cX11_compare.data.toList.drop 0 = dktX11_compare_0 := by decide +kernel
theorem dX11_compare_0 : decode cX11_compare 0 = .ok (.aload_n 0, 1) := dk_42 (dk_at dksX11_compare_0 0 rfl rfl)
theorem dX11_compare_1 : decode cX11_compare 1 = .ok (.aload_n 1, 1) := dk_43 (dk_at dksX11_compare_0 1 rfl rfl)
theorem dX11_compare_2 : decode cX11_compare 2 = .ok (.checkcast 8, 3) := dk_192 0 8 (dk_at dksX11_compare_0 2 rfl rfl)
theorem dX11_compare_5 : decode cX11_compare 5 = .ok (.aload_n 2, 1) := dk_44 (dk_at dksX11_compare_0 5 rfl rfl)
theorem dX11_compare_6 : decode cX11_compare 6 = .ok (.checkcast 8, 3) := dk_192 0 8 (dk_at dksX11_compare_0 6 rfl rfl)
theorem dX11_compare_9 : decode cX11_compare 9 = .ok (.invokevirtual 19, 3) := dk_182 0 19 (dk_at dksX11_compare_0 9 rfl rfl)
theorem dX11_compare_12 : decode cX11_compare 12 = .ok (.ireturn, 1) := dk_172 (dk_at dksX11_compare_0 12 rfl rfl)
abbrev cX11_compare_2 : ByteArray := prog_3_method_2_code
def yX11_compare_2 : MethodName := ⟨RX11, "compare", "(LWordCache$Asked;LWordCache$Asked;)I"⟩
def dkwX11_compare_2_2 : List UInt8 := [180, 0, 16, 44, 180, 0, 16, 100, 172]
abbrev dktX11_compare_2_2 : List UInt8 := dkwX11_compare_2_2 ++ []
def dkwX11_compare_2_1 : List UInt8 := [180, 0, 13, 44, 180, 0, 13, 159, 0, 15, 43, 180, 0, 13, 44, 180, 0, 13, 100, 167, 0, 12, 43]
abbrev dktX11_compare_2_1 : List UInt8 := dkwX11_compare_2_1 ++ dktX11_compare_2_2
def dkwX11_compare_2_0 : List UInt8 := [43, 180, 0, 7, 44, 180, 0, 7, 159, 0, 13, 44, 180, 0, 7, 43, 180, 0, 7, 100, 172, 43]
abbrev dktX11_compare_2_0 : List UInt8 := dkwX11_compare_2_0 ++ dktX11_compare_2_1
theorem dksX11_compare_2_0 : cX11_compare_2.data.toList.drop 0 = dktX11_compare_2_0 := by decide +kernel
theorem dksX11_compare_2_1 : cX11_compare_2.data.toList.drop 22 = dktX11_compare_2_1 := dk_seg dksX11_compare_2_0 22 rfl rfl
theorem dksX11_compare_2_2 : cX11_compare_2.data.toList.drop 45 = dktX11_compare_2_2 := dk_seg dksX11_compare_2_1 23 rfl rfl
theorem dX11_compare_2_0 : decode cX11_compare_2 0 = .ok (.aload_n 1, 1) := dk_43 (dk_at dksX11_compare_2_0 0 rfl rfl)
theorem dX11_compare_2_1 : decode cX11_compare_2 1 = .ok (.getfield 7, 3) := dk_180 0 7 (dk_at dksX11_compare_2_0 1 rfl rfl)
theorem dX11_compare_2_4 : decode cX11_compare_2 4 = .ok (.aload_n 2, 1) := dk_44 (dk_at dksX11_compare_2_0 4 rfl rfl)
theorem dX11_compare_2_5 : decode cX11_compare_2 5 = .ok (.getfield 7, 3) := dk_180 0 7 (dk_at dksX11_compare_2_0 5 rfl rfl)
theorem dX11_compare_2_8 : decode cX11_compare_2 8 = .ok (.if_icmp .eq 13, 3) := dk_159 0 13 (dk_at dksX11_compare_2_0 8 rfl rfl)
theorem dX11_compare_2_11 : decode cX11_compare_2 11 = .ok (.aload_n 2, 1) := dk_44 (dk_at dksX11_compare_2_0 11 rfl rfl)
theorem dX11_compare_2_12 : decode cX11_compare_2 12 = .ok (.getfield 7, 3) := dk_180 0 7 (dk_at dksX11_compare_2_0 12 rfl rfl)
theorem dX11_compare_2_15 : decode cX11_compare_2 15 = .ok (.aload_n 1, 1) := dk_43 (dk_at dksX11_compare_2_0 15 rfl rfl)
theorem dX11_compare_2_16 : decode cX11_compare_2 16 = .ok (.getfield 7, 3) := dk_180 0 7 (dk_at dksX11_compare_2_0 16 rfl rfl)
theorem dX11_compare_2_19 : decode cX11_compare_2 19 = .ok (.isub, 1) := dk_100 (dk_at dksX11_compare_2_0 19 rfl rfl)
theorem dX11_compare_2_20 : decode cX11_compare_2 20 = .ok (.ireturn, 1) := dk_172 (dk_at dksX11_compare_2_0 20 rfl rfl)
theorem dX11_compare_2_21 : decode cX11_compare_2 21 = .ok (.aload_n 1, 1) := dk_43 (dk_at dksX11_compare_2_0 21 rfl rfl)
theorem dX11_compare_2_22 : decode cX11_compare_2 22 = .ok (.getfield 13, 3) := dk_180 0 13 (dk_at dksX11_compare_2_1 0 rfl rfl)
theorem dX11_compare_2_25 : decode cX11_compare_2 25 = .ok (.aload_n 2, 1) := dk_44 (dk_at dksX11_compare_2_1 3 rfl rfl)
theorem dX11_compare_2_26 : decode cX11_compare_2 26 = .ok (.getfield 13, 3) := dk_180 0 13 (dk_at dksX11_compare_2_1 4 rfl rfl)
theorem dX11_compare_2_29 : decode cX11_compare_2 29 = .ok (.if_icmp .eq 15, 3) := dk_159 0 15 (dk_at dksX11_compare_2_1 7 rfl rfl)
theorem dX11_compare_2_32 : decode cX11_compare_2 32 = .ok (.aload_n 1, 1) := dk_43 (dk_at dksX11_compare_2_1 10 rfl rfl)
theorem dX11_compare_2_33 : decode cX11_compare_2 33 = .ok (.getfield 13, 3) := dk_180 0 13 (dk_at dksX11_compare_2_1 11 rfl rfl)
theorem dX11_compare_2_36 : decode cX11_compare_2 36 = .ok (.aload_n 2, 1) := dk_44 (dk_at dksX11_compare_2_1 14 rfl rfl)
theorem dX11_compare_2_37 : decode cX11_compare_2 37 = .ok (.getfield 13, 3) := dk_180 0 13 (dk_at dksX11_compare_2_1 15 rfl rfl)
theorem dX11_compare_2_40 : decode cX11_compare_2 40 = .ok (.isub, 1) := dk_100 (dk_at dksX11_compare_2_1 18 rfl rfl)
theorem dX11_compare_2_41 : decode cX11_compare_2 41 = .ok (.goto 12, 3) := dk_167 0 12 (dk_at dksX11_compare_2_1 19 rfl rfl)
theorem dX11_compare_2_44 : decode cX11_compare_2 44 = .ok (.aload_n 1, 1) := dk_43 (dk_at dksX11_compare_2_1 22 rfl rfl)
theorem dX11_compare_2_45 : decode cX11_compare_2 45 = .ok (.getfield 16, 3) := dk_180 0 16 (dk_at dksX11_compare_2_2 0 rfl rfl)
theorem dX11_compare_2_48 : decode cX11_compare_2 48 = .ok (.aload_n 2, 1) := dk_44 (dk_at dksX11_compare_2_2 3 rfl rfl)
theorem dX11_compare_2_49 : decode cX11_compare_2 49 = .ok (.getfield 16, 3) := dk_180 0 16 (dk_at dksX11_compare_2_2 4 rfl rfl)
theorem dX11_compare_2_52 : decode cX11_compare_2 52 = .ok (.isub, 1) := dk_100 (dk_at dksX11_compare_2_2 7 rfl rfl)
theorem dX11_compare_2_53 : decode cX11_compare_2 53 = .ok (.ireturn, 1) := dk_172 (dk_at dksX11_compare_2_2 8 rfl rfl)
abbrev cX11_init : ByteArray := prog_3_method_1_code
def yX11_init : MethodName := ⟨RX11, "<init>", "()V"⟩
theorem dX11_init_0 : decode cX11_init 0 = .ok (.aload_n 0, 1) := by decide +kernel
theorem dX11_init_1 : decode cX11_init 1 = .ok (.invokespecial 1, 3) := by decide +kernel
theorem dX11_init_4 : decode cX11_init 4 = .ok (.return_, 1) := by decide +kernel
abbrev cX12_init : ByteArray := prog_2_method_1_code
def yX12_init : MethodName := ⟨RX12, "<init>", "(III)V"⟩
def dkwX12_init_0 : List UInt8 := [42, 183, 0, 1, 42, 27, 181, 0, 7, 42, 28, 181, 0, 13, 42, 29, 181, 0, 16, 177]
abbrev dktX12_init_0 : List UInt8 := dkwX12_init_0 ++ []
theorem dksX12_init_0 : cX12_init.data.toList.drop 0 = dktX12_init_0 := by decide +kernel
theorem dX12_init_0 : decode cX12_init 0 = .ok (.aload_n 0, 1) := dk_42 (dk_at dksX12_init_0 0 rfl rfl)
theorem dX12_init_1 : decode cX12_init 1 = .ok (.invokespecial 1, 3) := dk_183 0 1 (dk_at dksX12_init_0 1 rfl rfl)
theorem dX12_init_4 : decode cX12_init 4 = .ok (.aload_n 0, 1) := dk_42 (dk_at dksX12_init_0 4 rfl rfl)
theorem dX12_init_5 : decode cX12_init 5 = .ok (.iload_n 1, 1) := dk_27 (dk_at dksX12_init_0 5 rfl rfl)
theorem dX12_init_6 : decode cX12_init 6 = .ok (.putfield 7, 3) := dk_181 0 7 (dk_at dksX12_init_0 6 rfl rfl)
theorem dX12_init_9 : decode cX12_init 9 = .ok (.aload_n 0, 1) := dk_42 (dk_at dksX12_init_0 9 rfl rfl)
theorem dX12_init_10 : decode cX12_init 10 = .ok (.iload_n 2, 1) := dk_28 (dk_at dksX12_init_0 10 rfl rfl)
theorem dX12_init_11 : decode cX12_init 11 = .ok (.putfield 13, 3) := dk_181 0 13 (dk_at dksX12_init_0 11 rfl rfl)
theorem dX12_init_14 : decode cX12_init 14 = .ok (.aload_n 0, 1) := dk_42 (dk_at dksX12_init_0 14 rfl rfl)
theorem dX12_init_15 : decode cX12_init 15 = .ok (.iload_n 3, 1) := dk_29 (dk_at dksX12_init_0 15 rfl rfl)
theorem dX12_init_16 : decode cX12_init 16 = .ok (.putfield 16, 3) := dk_181 0 16 (dk_at dksX12_init_0 16 rfl rfl)
theorem dX12_init_19 : decode cX12_init 19 = .ok (.return_, 1) := dk_177 (dk_at dksX12_init_0 19 rfl rfl)
abbrev cX13_init : ByteArray := prog_11_method_1_code
def yX13_init : MethodName := ⟨RX13, "<init>", "(Ljava/lang/String;)V"⟩
def dkwX13_init_0 : List UInt8 := [42, 183, 0, 1, 42, 43, 181, 0, 7, 177]
abbrev dktX13_init_0 : List UInt8 := dkwX13_init_0 ++ []
theorem dksX13_init_0 : cX13_init.data.toList.drop 0 = dktX13_init_0 := by decide +kernel
theorem dX13_init_0 : decode cX13_init 0 = .ok (.aload_n 0, 1) := dk_42 (dk_at dksX13_init_0 0 rfl rfl)
theorem dX13_init_1 : decode cX13_init 1 = .ok (.invokespecial 1, 3) := dk_183 0 1 (dk_at dksX13_init_0 1 rfl rfl)
theorem dX13_init_4 : decode cX13_init 4 = .ok (.aload_n 0, 1) := dk_42 (dk_at dksX13_init_0 4 rfl rfl)
theorem dX13_init_5 : decode cX13_init 5 = .ok (.aload_n 1, 1) := dk_43 (dk_at dksX13_init_0 5 rfl rfl)
theorem dX13_init_6 : decode cX13_init 6 = .ok (.putfield 7, 3) := dk_181 0 7 (dk_at dksX13_init_0 6 rfl rfl)
theorem dX13_init_9 : decode cX13_init 9 = .ok (.return_, 1) := dk_177 (dk_at dksX13_init_0 9 rfl rfl)
abbrev cX13_whole : ByteArray := prog_11_method_12_code
def yX13_whole : MethodName := ⟨RX13, "whole", "()Ljava/util/List;"⟩
def dkwX13_whole_2 : List UInt8 := [167, 0, 4, 3, 182, 0, 40, 43, 176]
abbrev dktX13_whole_2 : List UInt8 := dkwX13_whole_2 ++ []
def dkwX13_whole_1 : List UInt8 := [182, 0, 36, 154, 255, 239, 42, 42, 180, 0, 13, 42, 180, 0, 7, 182, 0, 17, 160, 0, 7, 4]
abbrev dktX13_whole_1 : List UInt8 := dkwX13_whole_1 ++ dktX13_whole_2
def dkwX13_whole_0 : List UInt8 := [187, 0, 105, 89, 183, 0, 107, 76, 43, 42, 182, 0, 108, 185, 0, 111, 2, 0, 87, 42, 16, 59]
abbrev dktX13_whole_0 : List UInt8 := dkwX13_whole_0 ++ dktX13_whole_1
theorem dksX13_whole_0 : cX13_whole.data.toList.drop 0 = dktX13_whole_0 := by decide +kernel
theorem dksX13_whole_1 : cX13_whole.data.toList.drop 22 = dktX13_whole_1 := dk_seg dksX13_whole_0 22 rfl rfl
theorem dksX13_whole_2 : cX13_whole.data.toList.drop 44 = dktX13_whole_2 := dk_seg dksX13_whole_1 22 rfl rfl
theorem dX13_whole_0 : decode cX13_whole 0 = .ok (.new 105, 3) := dk_187 0 105 (dk_at dksX13_whole_0 0 rfl rfl)
theorem dX13_whole_3 : decode cX13_whole 3 = .ok (.dup, 1) := dk_89 (dk_at dksX13_whole_0 3 rfl rfl)
theorem dX13_whole_4 : decode cX13_whole 4 = .ok (.invokespecial 107, 3) := dk_183 0 107 (dk_at dksX13_whole_0 4 rfl rfl)
theorem dX13_whole_7 : decode cX13_whole 7 = .ok (.astore_n 1, 1) := dk_76 (dk_at dksX13_whole_0 7 rfl rfl)
theorem dX13_whole_8 : decode cX13_whole 8 = .ok (.aload_n 1, 1) := dk_43 (dk_at dksX13_whole_0 8 rfl rfl)
theorem dX13_whole_9 : decode cX13_whole 9 = .ok (.aload_n 0, 1) := dk_42 (dk_at dksX13_whole_0 9 rfl rfl)
theorem dX13_whole_10 : decode cX13_whole 10 = .ok (.invokevirtual 108, 3) := dk_182 0 108 (dk_at dksX13_whole_0 10 rfl rfl)
theorem dX13_whole_13 : decode cX13_whole 13 = .ok (.invokeinterface 111 2, 5) := by decide +kernel
theorem dX13_whole_18 : decode cX13_whole 18 = .ok (.pop, 1) := dk_87 (dk_at dksX13_whole_0 18 rfl rfl)
theorem dX13_whole_19 : decode cX13_whole 19 = .ok (.aload_n 0, 1) := dk_42 (dk_at dksX13_whole_0 19 rfl rfl)
theorem dX13_whole_20 : decode cX13_whole 20 = .ok (.bipush 59, 2) := dk_16 59 (dk_at dksX13_whole_0 20 rfl rfl)
theorem dX13_whole_22 : decode cX13_whole 22 = .ok (.invokevirtual 36, 3) := dk_182 0 36 (dk_at dksX13_whole_1 0 rfl rfl)
theorem dX13_whole_25 : decode cX13_whole 25 = .ok (.ifCond .ne (-17), 3) := dk_154 255 239 (dk_at dksX13_whole_1 3 rfl rfl)
theorem dX13_whole_28 : decode cX13_whole 28 = .ok (.aload_n 0, 1) := dk_42 (dk_at dksX13_whole_1 6 rfl rfl)
theorem dX13_whole_29 : decode cX13_whole 29 = .ok (.aload_n 0, 1) := dk_42 (dk_at dksX13_whole_1 7 rfl rfl)
theorem dX13_whole_30 : decode cX13_whole 30 = .ok (.getfield 13, 3) := dk_180 0 13 (dk_at dksX13_whole_1 8 rfl rfl)
theorem dX13_whole_33 : decode cX13_whole 33 = .ok (.aload_n 0, 1) := dk_42 (dk_at dksX13_whole_1 11 rfl rfl)
theorem dX13_whole_34 : decode cX13_whole 34 = .ok (.getfield 7, 3) := dk_180 0 7 (dk_at dksX13_whole_1 12 rfl rfl)
theorem dX13_whole_37 : decode cX13_whole 37 = .ok (.invokevirtual 17, 3) := dk_182 0 17 (dk_at dksX13_whole_1 15 rfl rfl)
theorem dX13_whole_40 : decode cX13_whole 40 = .ok (.if_icmp .ne 7, 3) := dk_160 0 7 (dk_at dksX13_whole_1 18 rfl rfl)
theorem dX13_whole_43 : decode cX13_whole 43 = .ok (.iconst 1, 1) := dk_4 (dk_at dksX13_whole_1 21 rfl rfl)
theorem dX13_whole_44 : decode cX13_whole 44 = .ok (.goto 4, 3) := dk_167 0 4 (dk_at dksX13_whole_2 0 rfl rfl)
theorem dX13_whole_47 : decode cX13_whole 47 = .ok (.iconst 0, 1) := dk_3 (dk_at dksX13_whole_2 3 rfl rfl)
theorem dX13_whole_48 : decode cX13_whole 48 = .ok (.invokevirtual 40, 3) := dk_182 0 40 (dk_at dksX13_whole_2 4 rfl rfl)
theorem dX13_whole_51 : decode cX13_whole 51 = .ok (.aload_n 1, 1) := dk_43 (dk_at dksX13_whole_2 7 rfl rfl)
theorem dX13_whole_52 : decode cX13_whole 52 = .ok (.areturn, 1) := dk_176 (dk_at dksX13_whole_2 8 rfl rfl)
abbrev cX13_order : ByteArray := prog_11_method_11_code
def yX13_order : MethodName := ⟨RX13, "order", "()LWordCache$Order;"⟩
def dkwX13_order_4 : List UInt8 := [182, 0, 80, 176]
abbrev dktX13_order_4 : List UInt8 := dkwX13_order_4 ++ []
def dkwX13_order_3 : List UInt8 := [153, 0, 10, 42, 18, 101, 182, 0, 92, 176, 42, 42, 16, 116, 182, 0, 36, 182, 0, 40, 42, 18, 103]
abbrev dktX13_order_3 : List UInt8 := dkwX13_order_3 ++ dktX13_order_4
def dkwX13_order_2 : List UInt8 := [182, 0, 80, 176, 42, 16, 102, 182, 0, 36, 153, 0, 8, 42, 182, 0, 97, 176, 42, 16, 100, 182, 0, 36]
abbrev dktX13_order_2 : List UInt8 := dkwX13_order_2 ++ dktX13_order_3
def dkwX13_order_1 : List UInt8 := [153, 0, 10, 42, 18, 90, 182, 0, 92, 176, 42, 16, 112, 182, 0, 36, 153, 0, 10, 42, 18, 95]
abbrev dktX13_order_1 : List UInt8 := dkwX13_order_1 ++ dktX13_order_2
def dkwX13_order_0 : List UInt8 := [42, 16, 114, 182, 0, 36, 153, 0, 10, 42, 18, 88, 182, 0, 80, 176, 42, 16, 119, 182, 0, 36]
abbrev dktX13_order_0 : List UInt8 := dkwX13_order_0 ++ dktX13_order_1
theorem dksX13_order_0 : cX13_order.data.toList.drop 0 = dktX13_order_0 := by decide +kernel
theorem dksX13_order_1 : cX13_order.data.toList.drop 22 = dktX13_order_1 := dk_seg dksX13_order_0 22 rfl rfl
theorem dksX13_order_2 : cX13_order.data.toList.drop 44 = dktX13_order_2 := dk_seg dksX13_order_1 22 rfl rfl
theorem dksX13_order_3 : cX13_order.data.toList.drop 68 = dktX13_order_3 := dk_seg dksX13_order_2 24 rfl rfl
theorem dksX13_order_4 : cX13_order.data.toList.drop 91 = dktX13_order_4 := dk_seg dksX13_order_3 23 rfl rfl
theorem dX13_order_0 : decode cX13_order 0 = .ok (.aload_n 0, 1) := dk_42 (dk_at dksX13_order_0 0 rfl rfl)
theorem dX13_order_1 : decode cX13_order 1 = .ok (.bipush 114, 2) := dk_16 114 (dk_at dksX13_order_0 1 rfl rfl)
theorem dX13_order_3 : decode cX13_order 3 = .ok (.invokevirtual 36, 3) := dk_182 0 36 (dk_at dksX13_order_0 3 rfl rfl)
theorem dX13_order_6 : decode cX13_order 6 = .ok (.ifCond .eq 10, 3) := dk_153 0 10 (dk_at dksX13_order_0 6 rfl rfl)
theorem dX13_order_9 : decode cX13_order 9 = .ok (.aload_n 0, 1) := dk_42 (dk_at dksX13_order_0 9 rfl rfl)
theorem dX13_order_10 : decode cX13_order 10 = .ok (.ldc 88, 2) := dk_18 88 (dk_at dksX13_order_0 10 rfl rfl)
theorem dX13_order_12 : decode cX13_order 12 = .ok (.invokevirtual 80, 3) := dk_182 0 80 (dk_at dksX13_order_0 12 rfl rfl)
theorem dX13_order_15 : decode cX13_order 15 = .ok (.areturn, 1) := dk_176 (dk_at dksX13_order_0 15 rfl rfl)
theorem dX13_order_16 : decode cX13_order 16 = .ok (.aload_n 0, 1) := dk_42 (dk_at dksX13_order_0 16 rfl rfl)
theorem dX13_order_17 : decode cX13_order 17 = .ok (.bipush 119, 2) := dk_16 119 (dk_at dksX13_order_0 17 rfl rfl)
theorem dX13_order_19 : decode cX13_order 19 = .ok (.invokevirtual 36, 3) := dk_182 0 36 (dk_at dksX13_order_0 19 rfl rfl)
theorem dX13_order_22 : decode cX13_order 22 = .ok (.ifCond .eq 10, 3) := dk_153 0 10 (dk_at dksX13_order_1 0 rfl rfl)
theorem dX13_order_25 : decode cX13_order 25 = .ok (.aload_n 0, 1) := dk_42 (dk_at dksX13_order_1 3 rfl rfl)
theorem dX13_order_26 : decode cX13_order 26 = .ok (.ldc 90, 2) := dk_18 90 (dk_at dksX13_order_1 4 rfl rfl)
theorem dX13_order_28 : decode cX13_order 28 = .ok (.invokevirtual 92, 3) := dk_182 0 92 (dk_at dksX13_order_1 6 rfl rfl)
theorem dX13_order_31 : decode cX13_order 31 = .ok (.areturn, 1) := dk_176 (dk_at dksX13_order_1 9 rfl rfl)
theorem dX13_order_32 : decode cX13_order 32 = .ok (.aload_n 0, 1) := dk_42 (dk_at dksX13_order_1 10 rfl rfl)
theorem dX13_order_33 : decode cX13_order 33 = .ok (.bipush 112, 2) := dk_16 112 (dk_at dksX13_order_1 11 rfl rfl)
theorem dX13_order_35 : decode cX13_order 35 = .ok (.invokevirtual 36, 3) := dk_182 0 36 (dk_at dksX13_order_1 13 rfl rfl)
theorem dX13_order_38 : decode cX13_order 38 = .ok (.ifCond .eq 10, 3) := dk_153 0 10 (dk_at dksX13_order_1 16 rfl rfl)
theorem dX13_order_41 : decode cX13_order 41 = .ok (.aload_n 0, 1) := dk_42 (dk_at dksX13_order_1 19 rfl rfl)
theorem dX13_order_42 : decode cX13_order 42 = .ok (.ldc 95, 2) := dk_18 95 (dk_at dksX13_order_1 20 rfl rfl)
theorem dX13_order_44 : decode cX13_order 44 = .ok (.invokevirtual 80, 3) := dk_182 0 80 (dk_at dksX13_order_2 0 rfl rfl)
theorem dX13_order_47 : decode cX13_order 47 = .ok (.areturn, 1) := dk_176 (dk_at dksX13_order_2 3 rfl rfl)
theorem dX13_order_48 : decode cX13_order 48 = .ok (.aload_n 0, 1) := dk_42 (dk_at dksX13_order_2 4 rfl rfl)
theorem dX13_order_49 : decode cX13_order 49 = .ok (.bipush 102, 2) := dk_16 102 (dk_at dksX13_order_2 5 rfl rfl)
theorem dX13_order_51 : decode cX13_order 51 = .ok (.invokevirtual 36, 3) := dk_182 0 36 (dk_at dksX13_order_2 7 rfl rfl)
theorem dX13_order_54 : decode cX13_order 54 = .ok (.ifCond .eq 8, 3) := dk_153 0 8 (dk_at dksX13_order_2 10 rfl rfl)
theorem dX13_order_57 : decode cX13_order 57 = .ok (.aload_n 0, 1) := dk_42 (dk_at dksX13_order_2 13 rfl rfl)
theorem dX13_order_58 : decode cX13_order 58 = .ok (.invokevirtual 97, 3) := dk_182 0 97 (dk_at dksX13_order_2 14 rfl rfl)
theorem dX13_order_61 : decode cX13_order 61 = .ok (.areturn, 1) := dk_176 (dk_at dksX13_order_2 17 rfl rfl)
theorem dX13_order_62 : decode cX13_order 62 = .ok (.aload_n 0, 1) := dk_42 (dk_at dksX13_order_2 18 rfl rfl)
theorem dX13_order_63 : decode cX13_order 63 = .ok (.bipush 100, 2) := dk_16 100 (dk_at dksX13_order_2 19 rfl rfl)
theorem dX13_order_65 : decode cX13_order 65 = .ok (.invokevirtual 36, 3) := dk_182 0 36 (dk_at dksX13_order_2 21 rfl rfl)
theorem dX13_order_68 : decode cX13_order 68 = .ok (.ifCond .eq 10, 3) := dk_153 0 10 (dk_at dksX13_order_3 0 rfl rfl)
theorem dX13_order_71 : decode cX13_order 71 = .ok (.aload_n 0, 1) := dk_42 (dk_at dksX13_order_3 3 rfl rfl)
theorem dX13_order_72 : decode cX13_order 72 = .ok (.ldc 101, 2) := dk_18 101 (dk_at dksX13_order_3 4 rfl rfl)
theorem dX13_order_74 : decode cX13_order 74 = .ok (.invokevirtual 92, 3) := dk_182 0 92 (dk_at dksX13_order_3 6 rfl rfl)
theorem dX13_order_77 : decode cX13_order 77 = .ok (.areturn, 1) := dk_176 (dk_at dksX13_order_3 9 rfl rfl)
theorem dX13_order_78 : decode cX13_order 78 = .ok (.aload_n 0, 1) := dk_42 (dk_at dksX13_order_3 10 rfl rfl)
theorem dX13_order_79 : decode cX13_order 79 = .ok (.aload_n 0, 1) := dk_42 (dk_at dksX13_order_3 11 rfl rfl)
theorem dX13_order_80 : decode cX13_order 80 = .ok (.bipush 116, 2) := dk_16 116 (dk_at dksX13_order_3 12 rfl rfl)
theorem dX13_order_82 : decode cX13_order 82 = .ok (.invokevirtual 36, 3) := dk_182 0 36 (dk_at dksX13_order_3 14 rfl rfl)
theorem dX13_order_85 : decode cX13_order 85 = .ok (.invokevirtual 40, 3) := dk_182 0 40 (dk_at dksX13_order_3 17 rfl rfl)
theorem dX13_order_88 : decode cX13_order 88 = .ok (.aload_n 0, 1) := dk_42 (dk_at dksX13_order_3 20 rfl rfl)
theorem dX13_order_89 : decode cX13_order 89 = .ok (.ldc 103, 2) := dk_18 103 (dk_at dksX13_order_3 21 rfl rfl)
theorem dX13_order_91 : decode cX13_order 91 = .ok (.invokevirtual 80, 3) := dk_182 0 80 (dk_at dksX13_order_4 0 rfl rfl)
theorem dX13_order_94 : decode cX13_order 94 = .ok (.areturn, 1) := dk_176 (dk_at dksX13_order_4 3 rfl rfl)
abbrev cX13_passes : ByteArray := prog_11_method_3_code
def yX13_passes : MethodName := ⟨RX13, "passes", "(C)Z"⟩
def dkwX13_passes_1 : List UInt8 := [181, 0, 13, 28, 172]
abbrev dktX13_passes_1 : List UInt8 := dkwX13_passes_1 ++ []
def dkwX13_passes_0 : List UInt8 := [42, 27, 27, 182, 0, 27, 61, 42, 89, 180, 0, 13, 28, 153, 0, 7, 4, 167, 0, 4, 3, 96]
abbrev dktX13_passes_0 : List UInt8 := dkwX13_passes_0 ++ dktX13_passes_1
theorem dksX13_passes_0 : cX13_passes.data.toList.drop 0 = dktX13_passes_0 := by decide +kernel
theorem dksX13_passes_1 : cX13_passes.data.toList.drop 22 = dktX13_passes_1 := dk_seg dksX13_passes_0 22 rfl rfl
theorem dX13_passes_0 : decode cX13_passes 0 = .ok (.aload_n 0, 1) := dk_42 (dk_at dksX13_passes_0 0 rfl rfl)
theorem dX13_passes_1 : decode cX13_passes 1 = .ok (.iload_n 1, 1) := dk_27 (dk_at dksX13_passes_0 1 rfl rfl)
theorem dX13_passes_2 : decode cX13_passes 2 = .ok (.iload_n 1, 1) := dk_27 (dk_at dksX13_passes_0 2 rfl rfl)
theorem dX13_passes_3 : decode cX13_passes 3 = .ok (.invokevirtual 27, 3) := dk_182 0 27 (dk_at dksX13_passes_0 3 rfl rfl)
theorem dX13_passes_6 : decode cX13_passes 6 = .ok (.istore_n 2, 1) := dk_61 (dk_at dksX13_passes_0 6 rfl rfl)
theorem dX13_passes_7 : decode cX13_passes 7 = .ok (.aload_n 0, 1) := dk_42 (dk_at dksX13_passes_0 7 rfl rfl)
theorem dX13_passes_8 : decode cX13_passes 8 = .ok (.dup, 1) := dk_89 (dk_at dksX13_passes_0 8 rfl rfl)
theorem dX13_passes_9 : decode cX13_passes 9 = .ok (.getfield 13, 3) := dk_180 0 13 (dk_at dksX13_passes_0 9 rfl rfl)
theorem dX13_passes_12 : decode cX13_passes 12 = .ok (.iload_n 2, 1) := dk_28 (dk_at dksX13_passes_0 12 rfl rfl)
theorem dX13_passes_13 : decode cX13_passes 13 = .ok (.ifCond .eq 7, 3) := dk_153 0 7 (dk_at dksX13_passes_0 13 rfl rfl)
theorem dX13_passes_16 : decode cX13_passes 16 = .ok (.iconst 1, 1) := dk_4 (dk_at dksX13_passes_0 16 rfl rfl)
theorem dX13_passes_17 : decode cX13_passes 17 = .ok (.goto 4, 3) := dk_167 0 4 (dk_at dksX13_passes_0 17 rfl rfl)
theorem dX13_passes_20 : decode cX13_passes 20 = .ok (.iconst 0, 1) := dk_3 (dk_at dksX13_passes_0 20 rfl rfl)
theorem dX13_passes_21 : decode cX13_passes 21 = .ok (.iadd, 1) := dk_96 (dk_at dksX13_passes_0 21 rfl rfl)
theorem dX13_passes_22 : decode cX13_passes 22 = .ok (.putfield 13, 3) := dk_181 0 13 (dk_at dksX13_passes_1 0 rfl rfl)
theorem dX13_passes_25 : decode cX13_passes 25 = .ok (.iload_n 2, 1) := dk_28 (dk_at dksX13_passes_1 3 rfl rfl)
theorem dX13_passes_26 : decode cX13_passes 26 = .ok (.ireturn, 1) := dk_172 (dk_at dksX13_passes_1 4 rfl rfl)
abbrev cX13_isNext : ByteArray := prog_11_method_2_code
def yX13_isNext : MethodName := ⟨RX13, "isNext", "(CC)Z"⟩
def dkwX13_isNext_2 : List UInt8 := [167, 0, 4, 3, 172]
abbrev dktX13_isNext_2 : List UInt8 := dkwX13_isNext_2 ++ []
def dkwX13_isNext_1 : List UInt8 := [182, 0, 23, 163, 0, 22, 42, 180, 0, 7, 42, 180, 0, 13, 182, 0, 23, 28, 163, 0, 7, 4]
abbrev dktX13_isNext_1 : List UInt8 := dkwX13_isNext_1 ++ dktX13_isNext_2
def dkwX13_isNext_0 : List UInt8 := [42, 180, 0, 13, 42, 180, 0, 7, 182, 0, 17, 162, 0, 37, 27, 42, 180, 0, 7, 42, 180, 0, 13]
abbrev dktX13_isNext_0 : List UInt8 := dkwX13_isNext_0 ++ dktX13_isNext_1
theorem dksX13_isNext_0 : cX13_isNext.data.toList.drop 0 = dktX13_isNext_0 := by decide +kernel
theorem dksX13_isNext_1 : cX13_isNext.data.toList.drop 23 = dktX13_isNext_1 := dk_seg dksX13_isNext_0 23 rfl rfl
theorem dksX13_isNext_2 : cX13_isNext.data.toList.drop 45 = dktX13_isNext_2 := dk_seg dksX13_isNext_1 22 rfl rfl
theorem dX13_isNext_0 : decode cX13_isNext 0 = .ok (.aload_n 0, 1) := dk_42 (dk_at dksX13_isNext_0 0 rfl rfl)
theorem dX13_isNext_1 : decode cX13_isNext 1 = .ok (.getfield 13, 3) := dk_180 0 13 (dk_at dksX13_isNext_0 1 rfl rfl)
theorem dX13_isNext_4 : decode cX13_isNext 4 = .ok (.aload_n 0, 1) := dk_42 (dk_at dksX13_isNext_0 4 rfl rfl)
theorem dX13_isNext_5 : decode cX13_isNext 5 = .ok (.getfield 7, 3) := dk_180 0 7 (dk_at dksX13_isNext_0 5 rfl rfl)
theorem dX13_isNext_8 : decode cX13_isNext 8 = .ok (.invokevirtual 17, 3) := dk_182 0 17 (dk_at dksX13_isNext_0 8 rfl rfl)
theorem dX13_isNext_11 : decode cX13_isNext 11 = .ok (.if_icmp .ge 37, 3) := dk_162 0 37 (dk_at dksX13_isNext_0 11 rfl rfl)
theorem dX13_isNext_14 : decode cX13_isNext 14 = .ok (.iload_n 1, 1) := dk_27 (dk_at dksX13_isNext_0 14 rfl rfl)
theorem dX13_isNext_15 : decode cX13_isNext 15 = .ok (.aload_n 0, 1) := dk_42 (dk_at dksX13_isNext_0 15 rfl rfl)
theorem dX13_isNext_16 : decode cX13_isNext 16 = .ok (.getfield 7, 3) := dk_180 0 7 (dk_at dksX13_isNext_0 16 rfl rfl)
theorem dX13_isNext_19 : decode cX13_isNext 19 = .ok (.aload_n 0, 1) := dk_42 (dk_at dksX13_isNext_0 19 rfl rfl)
theorem dX13_isNext_20 : decode cX13_isNext 20 = .ok (.getfield 13, 3) := dk_180 0 13 (dk_at dksX13_isNext_0 20 rfl rfl)
theorem dX13_isNext_23 : decode cX13_isNext 23 = .ok (.invokevirtual 23, 3) := dk_182 0 23 (dk_at dksX13_isNext_1 0 rfl rfl)
theorem dX13_isNext_26 : decode cX13_isNext 26 = .ok (.if_icmp .gt 22, 3) := dk_163 0 22 (dk_at dksX13_isNext_1 3 rfl rfl)
theorem dX13_isNext_29 : decode cX13_isNext 29 = .ok (.aload_n 0, 1) := dk_42 (dk_at dksX13_isNext_1 6 rfl rfl)
theorem dX13_isNext_30 : decode cX13_isNext 30 = .ok (.getfield 7, 3) := dk_180 0 7 (dk_at dksX13_isNext_1 7 rfl rfl)
theorem dX13_isNext_33 : decode cX13_isNext 33 = .ok (.aload_n 0, 1) := dk_42 (dk_at dksX13_isNext_1 10 rfl rfl)
theorem dX13_isNext_34 : decode cX13_isNext 34 = .ok (.getfield 13, 3) := dk_180 0 13 (dk_at dksX13_isNext_1 11 rfl rfl)
theorem dX13_isNext_37 : decode cX13_isNext 37 = .ok (.invokevirtual 23, 3) := dk_182 0 23 (dk_at dksX13_isNext_1 14 rfl rfl)
theorem dX13_isNext_40 : decode cX13_isNext 40 = .ok (.iload_n 2, 1) := dk_28 (dk_at dksX13_isNext_1 17 rfl rfl)
theorem dX13_isNext_41 : decode cX13_isNext 41 = .ok (.if_icmp .gt 7, 3) := dk_163 0 7 (dk_at dksX13_isNext_1 18 rfl rfl)
theorem dX13_isNext_44 : decode cX13_isNext 44 = .ok (.iconst 1, 1) := dk_4 (dk_at dksX13_isNext_1 21 rfl rfl)
theorem dX13_isNext_45 : decode cX13_isNext 45 = .ok (.goto 4, 3) := dk_167 0 4 (dk_at dksX13_isNext_2 0 rfl rfl)
theorem dX13_isNext_48 : decode cX13_isNext 48 = .ok (.iconst 0, 1) := dk_3 (dk_at dksX13_isNext_2 3 rfl rfl)
theorem dX13_isNext_49 : decode cX13_isNext 49 = .ok (.ireturn, 1) := dk_172 (dk_at dksX13_isNext_2 4 rfl rfl)
abbrev cX13_withNumber : ByteArray := prog_11_method_8_code
def yX13_withNumber : MethodName := ⟨RX13, "withNumber", "(Ljava/lang/String;)LWordCache$Order;"⟩
def dkwX13_withNumber_1 : List UInt8 := [182, 0, 64, 187, 0, 68, 89, 43, 42, 182, 0, 70, 3, 183, 0, 73, 176]
abbrev dktX13_withNumber_1 : List UInt8 := dkwX13_withNumber_1 ++ []
def dkwX13_withNumber_0 : List UInt8 := [42, 187, 0, 47, 89, 183, 0, 49, 43, 4, 182, 0, 50, 182, 0, 54, 18, 58, 182, 0, 54, 182, 0, 60]
abbrev dktX13_withNumber_0 : List UInt8 := dkwX13_withNumber_0 ++ dktX13_withNumber_1
theorem dksX13_withNumber_0 : cX13_withNumber.data.toList.drop 0 = dktX13_withNumber_0 := by decide +kernel
theorem dksX13_withNumber_1 : cX13_withNumber.data.toList.drop 24 = dktX13_withNumber_1 := dk_seg dksX13_withNumber_0 24 rfl rfl
theorem dX13_withNumber_0 : decode cX13_withNumber 0 = .ok (.aload_n 0, 1) := dk_42 (dk_at dksX13_withNumber_0 0 rfl rfl)
theorem dX13_withNumber_1 : decode cX13_withNumber 1 = .ok (.new 47, 3) := dk_187 0 47 (dk_at dksX13_withNumber_0 1 rfl rfl)
theorem dX13_withNumber_4 : decode cX13_withNumber 4 = .ok (.dup, 1) := dk_89 (dk_at dksX13_withNumber_0 4 rfl rfl)
theorem dX13_withNumber_5 : decode cX13_withNumber 5 = .ok (.invokespecial 49, 3) := dk_183 0 49 (dk_at dksX13_withNumber_0 5 rfl rfl)
theorem dX13_withNumber_8 : decode cX13_withNumber 8 = .ok (.aload_n 1, 1) := dk_43 (dk_at dksX13_withNumber_0 8 rfl rfl)
theorem dX13_withNumber_9 : decode cX13_withNumber 9 = .ok (.iconst 1, 1) := dk_4 (dk_at dksX13_withNumber_0 9 rfl rfl)
theorem dX13_withNumber_10 : decode cX13_withNumber 10 = .ok (.invokevirtual 50, 3) := dk_182 0 50 (dk_at dksX13_withNumber_0 10 rfl rfl)
theorem dX13_withNumber_13 : decode cX13_withNumber 13 = .ok (.invokevirtual 54, 3) := dk_182 0 54 (dk_at dksX13_withNumber_0 13 rfl rfl)
theorem dX13_withNumber_16 : decode cX13_withNumber 16 = .ok (.ldc 58, 2) := dk_18 58 (dk_at dksX13_withNumber_0 16 rfl rfl)
theorem dX13_withNumber_18 : decode cX13_withNumber 18 = .ok (.invokevirtual 54, 3) := dk_182 0 54 (dk_at dksX13_withNumber_0 18 rfl rfl)
theorem dX13_withNumber_21 : decode cX13_withNumber 21 = .ok (.invokevirtual 60, 3) := dk_182 0 60 (dk_at dksX13_withNumber_0 21 rfl rfl)
theorem dX13_withNumber_24 : decode cX13_withNumber 24 = .ok (.invokevirtual 64, 3) := dk_182 0 64 (dk_at dksX13_withNumber_1 0 rfl rfl)
theorem dX13_withNumber_27 : decode cX13_withNumber 27 = .ok (.new 68, 3) := dk_187 0 68 (dk_at dksX13_withNumber_1 3 rfl rfl)
theorem dX13_withNumber_30 : decode cX13_withNumber 30 = .ok (.dup, 1) := dk_89 (dk_at dksX13_withNumber_1 6 rfl rfl)
theorem dX13_withNumber_31 : decode cX13_withNumber 31 = .ok (.aload_n 1, 1) := dk_43 (dk_at dksX13_withNumber_1 7 rfl rfl)
theorem dX13_withNumber_32 : decode cX13_withNumber 32 = .ok (.aload_n 0, 1) := dk_42 (dk_at dksX13_withNumber_1 8 rfl rfl)
theorem dX13_withNumber_33 : decode cX13_withNumber 33 = .ok (.invokevirtual 70, 3) := dk_182 0 70 (dk_at dksX13_withNumber_1 9 rfl rfl)
theorem dX13_withNumber_36 : decode cX13_withNumber 36 = .ok (.iconst 0, 1) := dk_3 (dk_at dksX13_withNumber_1 12 rfl rfl)
theorem dX13_withNumber_37 : decode cX13_withNumber 37 = .ok (.invokespecial 73, 3) := dk_183 0 73 (dk_at dksX13_withNumber_1 13 rfl rfl)
theorem dX13_withNumber_40 : decode cX13_withNumber 40 = .ok (.areturn, 1) := dk_176 (dk_at dksX13_withNumber_1 16 rfl rfl)
abbrev cX13_word : ByteArray := prog_11_method_5_code
def yX13_word : MethodName := ⟨RX13, "word", "(Ljava/lang/String;)V"⟩
def dkwX13_word_1 : List UInt8 := [132, 2, 1, 167, 255, 232, 177]
abbrev dktX13_word_1 : List UInt8 := dkwX13_word_1 ++ []
def dkwX13_word_0 : List UInt8 := [3, 61, 28, 43, 182, 0, 17, 162, 0, 22, 42, 42, 43, 28, 182, 0, 23, 182, 0, 36, 182, 0, 40]
abbrev dktX13_word_0 : List UInt8 := dkwX13_word_0 ++ dktX13_word_1
theorem dksX13_word_0 : cX13_word.data.toList.drop 0 = dktX13_word_0 := by decide +kernel
theorem dksX13_word_1 : cX13_word.data.toList.drop 23 = dktX13_word_1 := dk_seg dksX13_word_0 23 rfl rfl
theorem dX13_word_0 : decode cX13_word 0 = .ok (.iconst 0, 1) := dk_3 (dk_at dksX13_word_0 0 rfl rfl)
theorem dX13_word_1 : decode cX13_word 1 = .ok (.istore_n 2, 1) := dk_61 (dk_at dksX13_word_0 1 rfl rfl)
theorem dX13_word_2 : decode cX13_word 2 = .ok (.iload_n 2, 1) := dk_28 (dk_at dksX13_word_0 2 rfl rfl)
theorem dX13_word_3 : decode cX13_word 3 = .ok (.aload_n 1, 1) := dk_43 (dk_at dksX13_word_0 3 rfl rfl)
theorem dX13_word_4 : decode cX13_word 4 = .ok (.invokevirtual 17, 3) := dk_182 0 17 (dk_at dksX13_word_0 4 rfl rfl)
theorem dX13_word_7 : decode cX13_word 7 = .ok (.if_icmp .ge 22, 3) := dk_162 0 22 (dk_at dksX13_word_0 7 rfl rfl)
theorem dX13_word_10 : decode cX13_word 10 = .ok (.aload_n 0, 1) := dk_42 (dk_at dksX13_word_0 10 rfl rfl)
theorem dX13_word_11 : decode cX13_word 11 = .ok (.aload_n 0, 1) := dk_42 (dk_at dksX13_word_0 11 rfl rfl)
theorem dX13_word_12 : decode cX13_word 12 = .ok (.aload_n 1, 1) := dk_43 (dk_at dksX13_word_0 12 rfl rfl)
theorem dX13_word_13 : decode cX13_word 13 = .ok (.iload_n 2, 1) := dk_28 (dk_at dksX13_word_0 13 rfl rfl)
theorem dX13_word_14 : decode cX13_word 14 = .ok (.invokevirtual 23, 3) := dk_182 0 23 (dk_at dksX13_word_0 14 rfl rfl)
theorem dX13_word_17 : decode cX13_word 17 = .ok (.invokevirtual 36, 3) := dk_182 0 36 (dk_at dksX13_word_0 17 rfl rfl)
theorem dX13_word_20 : decode cX13_word 20 = .ok (.invokevirtual 40, 3) := dk_182 0 40 (dk_at dksX13_word_0 20 rfl rfl)
theorem dX13_word_23 : decode cX13_word 23 = .ok (.iinc 2 1, 3) := dk_132 2 1 (dk_at dksX13_word_1 0 rfl rfl)
theorem dX13_word_26 : decode cX13_word 26 = .ok (.goto (-24), 3) := dk_167 255 232 (dk_at dksX13_word_1 3 rfl rfl)
theorem dX13_word_29 : decode cX13_word 29 = .ok (.return_, 1) := dk_177 (dk_at dksX13_word_1 6 rfl rfl)
abbrev cX13_expect : ByteArray := prog_11_method_4_code
def yX13_expect : MethodName := ⟨RX13, "expect", "(Z)V"⟩
def dkwX13_expect_0 : List UInt8 := [27, 154, 0, 15, 187, 0, 31, 89, 42, 180, 0, 13, 183, 0, 33, 191, 177]
abbrev dktX13_expect_0 : List UInt8 := dkwX13_expect_0 ++ []
theorem dksX13_expect_0 : cX13_expect.data.toList.drop 0 = dktX13_expect_0 := by decide +kernel
theorem dX13_expect_0 : decode cX13_expect 0 = .ok (.iload_n 1, 1) := dk_27 (dk_at dksX13_expect_0 0 rfl rfl)
theorem dX13_expect_1 : decode cX13_expect 1 = .ok (.ifCond .ne 15, 3) := dk_154 0 15 (dk_at dksX13_expect_0 1 rfl rfl)
theorem dX13_expect_4 : decode cX13_expect 4 = .ok (.new 31, 3) := dk_187 0 31 (dk_at dksX13_expect_0 4 rfl rfl)
theorem dX13_expect_7 : decode cX13_expect 7 = .ok (.dup, 1) := dk_89 (dk_at dksX13_expect_0 7 rfl rfl)
theorem dX13_expect_8 : decode cX13_expect 8 = .ok (.aload_n 0, 1) := dk_42 (dk_at dksX13_expect_0 8 rfl rfl)
theorem dX13_expect_9 : decode cX13_expect 9 = .ok (.getfield 13, 3) := dk_180 0 13 (dk_at dksX13_expect_0 9 rfl rfl)
theorem dX13_expect_12 : decode cX13_expect 12 = .ok (.invokespecial 33, 3) := dk_183 0 33 (dk_at dksX13_expect_0 12 rfl rfl)
theorem dX13_expect_15 : decode cX13_expect 15 = .ok (.athrow, 1) := dk_191 (dk_at dksX13_expect_0 15 rfl rfl)
theorem dX13_expect_16 : decode cX13_expect 16 = .ok (.return_, 1) := dk_177 (dk_at dksX13_expect_0 16 rfl rfl)
abbrev cX13_number : ByteArray := prog_11_method_7_code
def yX13_number : MethodName := ⟨RX13, "number", "()I"⟩
def dkwX13_number_1 : List UInt8 := [16, 10, 27, 104, 42, 182, 0, 44, 96, 60, 132, 2, 1, 167, 255, 227, 27, 172]
abbrev dktX13_number_1 : List UInt8 := dkwX13_number_1 ++ []
def dkwX13_number_0 : List UInt8 := [42, 182, 0, 44, 60, 4, 61, 28, 6, 162, 0, 30, 42, 16, 48, 16, 57, 182, 0, 27, 153, 0, 19]
abbrev dktX13_number_0 : List UInt8 := dkwX13_number_0 ++ dktX13_number_1
theorem dksX13_number_0 : cX13_number.data.toList.drop 0 = dktX13_number_0 := by decide +kernel
theorem dksX13_number_1 : cX13_number.data.toList.drop 23 = dktX13_number_1 := dk_seg dksX13_number_0 23 rfl rfl
theorem dX13_number_0 : decode cX13_number 0 = .ok (.aload_n 0, 1) := dk_42 (dk_at dksX13_number_0 0 rfl rfl)
theorem dX13_number_1 : decode cX13_number 1 = .ok (.invokevirtual 44, 3) := dk_182 0 44 (dk_at dksX13_number_0 1 rfl rfl)
theorem dX13_number_4 : decode cX13_number 4 = .ok (.istore_n 1, 1) := dk_60 (dk_at dksX13_number_0 4 rfl rfl)
theorem dX13_number_5 : decode cX13_number 5 = .ok (.iconst 1, 1) := dk_4 (dk_at dksX13_number_0 5 rfl rfl)
theorem dX13_number_6 : decode cX13_number 6 = .ok (.istore_n 2, 1) := dk_61 (dk_at dksX13_number_0 6 rfl rfl)
theorem dX13_number_7 : decode cX13_number 7 = .ok (.iload_n 2, 1) := dk_28 (dk_at dksX13_number_0 7 rfl rfl)
theorem dX13_number_8 : decode cX13_number 8 = .ok (.iconst 3, 1) := dk_6 (dk_at dksX13_number_0 8 rfl rfl)
theorem dX13_number_9 : decode cX13_number 9 = .ok (.if_icmp .ge 30, 3) := dk_162 0 30 (dk_at dksX13_number_0 9 rfl rfl)
theorem dX13_number_12 : decode cX13_number 12 = .ok (.aload_n 0, 1) := dk_42 (dk_at dksX13_number_0 12 rfl rfl)
theorem dX13_number_13 : decode cX13_number 13 = .ok (.bipush 48, 2) := dk_16 48 (dk_at dksX13_number_0 13 rfl rfl)
theorem dX13_number_15 : decode cX13_number 15 = .ok (.bipush 57, 2) := dk_16 57 (dk_at dksX13_number_0 15 rfl rfl)
theorem dX13_number_17 : decode cX13_number 17 = .ok (.invokevirtual 27, 3) := dk_182 0 27 (dk_at dksX13_number_0 17 rfl rfl)
theorem dX13_number_20 : decode cX13_number 20 = .ok (.ifCond .eq 19, 3) := dk_153 0 19 (dk_at dksX13_number_0 20 rfl rfl)
theorem dX13_number_23 : decode cX13_number 23 = .ok (.bipush 10, 2) := dk_16 10 (dk_at dksX13_number_1 0 rfl rfl)
theorem dX13_number_25 : decode cX13_number 25 = .ok (.iload_n 1, 1) := dk_27 (dk_at dksX13_number_1 2 rfl rfl)
theorem dX13_number_26 : decode cX13_number 26 = .ok (.imul, 1) := dk_104 (dk_at dksX13_number_1 3 rfl rfl)
theorem dX13_number_27 : decode cX13_number 27 = .ok (.aload_n 0, 1) := dk_42 (dk_at dksX13_number_1 4 rfl rfl)
theorem dX13_number_28 : decode cX13_number 28 = .ok (.invokevirtual 44, 3) := dk_182 0 44 (dk_at dksX13_number_1 5 rfl rfl)
theorem dX13_number_31 : decode cX13_number 31 = .ok (.iadd, 1) := dk_96 (dk_at dksX13_number_1 8 rfl rfl)
theorem dX13_number_32 : decode cX13_number 32 = .ok (.istore_n 1, 1) := dk_60 (dk_at dksX13_number_1 9 rfl rfl)
theorem dX13_number_33 : decode cX13_number 33 = .ok (.iinc 2 1, 3) := dk_132 2 1 (dk_at dksX13_number_1 10 rfl rfl)
theorem dX13_number_36 : decode cX13_number 36 = .ok (.goto (-29), 3) := dk_167 255 227 (dk_at dksX13_number_1 13 rfl rfl)
theorem dX13_number_39 : decode cX13_number 39 = .ok (.iload_n 1, 1) := dk_27 (dk_at dksX13_number_1 16 rfl rfl)
theorem dX13_number_40 : decode cX13_number 40 = .ok (.ireturn, 1) := dk_172 (dk_at dksX13_number_1 17 rfl rfl)
abbrev cX13_digit : ByteArray := prog_11_method_6_code
def yX13_digit : MethodName := ⟨RX13, "digit", "()I"⟩
def dkwX13_digit_1 : List UInt8 := [180, 0, 7, 42, 180, 0, 13, 4, 100, 182, 0, 23, 16, 48, 100, 172]
abbrev dktX13_digit_1 : List UInt8 := dkwX13_digit_1 ++ []
def dkwX13_digit_0 : List UInt8 := [42, 42, 16, 48, 16, 57, 182, 0, 27, 182, 0, 40, 42, 89, 180, 0, 13, 4, 96, 181, 0, 13, 42]
abbrev dktX13_digit_0 : List UInt8 := dkwX13_digit_0 ++ dktX13_digit_1
theorem dksX13_digit_0 : cX13_digit.data.toList.drop 0 = dktX13_digit_0 := by decide +kernel
theorem dksX13_digit_1 : cX13_digit.data.toList.drop 23 = dktX13_digit_1 := dk_seg dksX13_digit_0 23 rfl rfl
theorem dX13_digit_0 : decode cX13_digit 0 = .ok (.aload_n 0, 1) := dk_42 (dk_at dksX13_digit_0 0 rfl rfl)
theorem dX13_digit_1 : decode cX13_digit 1 = .ok (.aload_n 0, 1) := dk_42 (dk_at dksX13_digit_0 1 rfl rfl)
theorem dX13_digit_2 : decode cX13_digit 2 = .ok (.bipush 48, 2) := dk_16 48 (dk_at dksX13_digit_0 2 rfl rfl)
theorem dX13_digit_4 : decode cX13_digit 4 = .ok (.bipush 57, 2) := dk_16 57 (dk_at dksX13_digit_0 4 rfl rfl)
theorem dX13_digit_6 : decode cX13_digit 6 = .ok (.invokevirtual 27, 3) := dk_182 0 27 (dk_at dksX13_digit_0 6 rfl rfl)
theorem dX13_digit_9 : decode cX13_digit 9 = .ok (.invokevirtual 40, 3) := dk_182 0 40 (dk_at dksX13_digit_0 9 rfl rfl)
theorem dX13_digit_12 : decode cX13_digit 12 = .ok (.aload_n 0, 1) := dk_42 (dk_at dksX13_digit_0 12 rfl rfl)
theorem dX13_digit_13 : decode cX13_digit 13 = .ok (.dup, 1) := dk_89 (dk_at dksX13_digit_0 13 rfl rfl)
theorem dX13_digit_14 : decode cX13_digit 14 = .ok (.getfield 13, 3) := dk_180 0 13 (dk_at dksX13_digit_0 14 rfl rfl)
theorem dX13_digit_17 : decode cX13_digit 17 = .ok (.iconst 1, 1) := dk_4 (dk_at dksX13_digit_0 17 rfl rfl)
theorem dX13_digit_18 : decode cX13_digit 18 = .ok (.iadd, 1) := dk_96 (dk_at dksX13_digit_0 18 rfl rfl)
theorem dX13_digit_19 : decode cX13_digit 19 = .ok (.putfield 13, 3) := dk_181 0 13 (dk_at dksX13_digit_0 19 rfl rfl)
theorem dX13_digit_22 : decode cX13_digit 22 = .ok (.aload_n 0, 1) := dk_42 (dk_at dksX13_digit_0 22 rfl rfl)
theorem dX13_digit_23 : decode cX13_digit 23 = .ok (.getfield 7, 3) := dk_180 0 7 (dk_at dksX13_digit_1 0 rfl rfl)
theorem dX13_digit_26 : decode cX13_digit 26 = .ok (.aload_n 0, 1) := dk_42 (dk_at dksX13_digit_1 3 rfl rfl)
theorem dX13_digit_27 : decode cX13_digit 27 = .ok (.getfield 13, 3) := dk_180 0 13 (dk_at dksX13_digit_1 4 rfl rfl)
theorem dX13_digit_30 : decode cX13_digit 30 = .ok (.iconst 1, 1) := dk_4 (dk_at dksX13_digit_1 7 rfl rfl)
theorem dX13_digit_31 : decode cX13_digit 31 = .ok (.isub, 1) := dk_100 (dk_at dksX13_digit_1 8 rfl rfl)
theorem dX13_digit_32 : decode cX13_digit 32 = .ok (.invokevirtual 23, 3) := dk_182 0 23 (dk_at dksX13_digit_1 9 rfl rfl)
theorem dX13_digit_35 : decode cX13_digit 35 = .ok (.bipush 48, 2) := dk_16 48 (dk_at dksX13_digit_1 12 rfl rfl)
theorem dX13_digit_37 : decode cX13_digit 37 = .ok (.isub, 1) := dk_100 (dk_at dksX13_digit_1 14 rfl rfl)
theorem dX13_digit_38 : decode cX13_digit 38 = .ok (.ireturn, 1) := dk_172 (dk_at dksX13_digit_1 15 rfl rfl)
abbrev cX13_withTwo : ByteArray := prog_11_method_9_code
def yX13_withTwo : MethodName := ⟨RX13, "withTwo", "(Ljava/lang/String;)LWordCache$Order;"⟩
def dkwX13_withTwo_3 : List UInt8 := [183, 0, 73, 176]
abbrev dktX13_withTwo_3 : List UInt8 := dkwX13_withTwo_3 ++ []
def dkwX13_withTwo_2 : List UInt8 := [182, 0, 70, 54, 4, 187, 0, 68, 89, 43, 28, 29, 153, 0, 9, 21, 4, 116, 167, 0, 5, 21, 4]
abbrev dktX13_withTwo_2 : List UInt8 := dkwX13_withTwo_2 ++ dktX13_withTwo_3
def dkwX13_withTwo_1 : List UInt8 := [182, 0, 64, 42, 182, 0, 70, 61, 42, 18, 76, 182, 0, 64, 42, 16, 45, 182, 0, 36, 62, 42]
abbrev dktX13_withTwo_1 : List UInt8 := dkwX13_withTwo_1 ++ dktX13_withTwo_2
def dkwX13_withTwo_0 : List UInt8 := [42, 187, 0, 47, 89, 183, 0, 49, 43, 4, 182, 0, 50, 182, 0, 54, 18, 58, 182, 0, 54, 182, 0, 60]
abbrev dktX13_withTwo_0 : List UInt8 := dkwX13_withTwo_0 ++ dktX13_withTwo_1
theorem dksX13_withTwo_0 : cX13_withTwo.data.toList.drop 0 = dktX13_withTwo_0 := by decide +kernel
theorem dksX13_withTwo_1 : cX13_withTwo.data.toList.drop 24 = dktX13_withTwo_1 := dk_seg dksX13_withTwo_0 24 rfl rfl
theorem dksX13_withTwo_2 : cX13_withTwo.data.toList.drop 46 = dktX13_withTwo_2 := dk_seg dksX13_withTwo_1 22 rfl rfl
theorem dksX13_withTwo_3 : cX13_withTwo.data.toList.drop 69 = dktX13_withTwo_3 := dk_seg dksX13_withTwo_2 23 rfl rfl
theorem dX13_withTwo_0 : decode cX13_withTwo 0 = .ok (.aload_n 0, 1) := dk_42 (dk_at dksX13_withTwo_0 0 rfl rfl)
theorem dX13_withTwo_1 : decode cX13_withTwo 1 = .ok (.new 47, 3) := dk_187 0 47 (dk_at dksX13_withTwo_0 1 rfl rfl)
theorem dX13_withTwo_4 : decode cX13_withTwo 4 = .ok (.dup, 1) := dk_89 (dk_at dksX13_withTwo_0 4 rfl rfl)
theorem dX13_withTwo_5 : decode cX13_withTwo 5 = .ok (.invokespecial 49, 3) := dk_183 0 49 (dk_at dksX13_withTwo_0 5 rfl rfl)
theorem dX13_withTwo_8 : decode cX13_withTwo 8 = .ok (.aload_n 1, 1) := dk_43 (dk_at dksX13_withTwo_0 8 rfl rfl)
theorem dX13_withTwo_9 : decode cX13_withTwo 9 = .ok (.iconst 1, 1) := dk_4 (dk_at dksX13_withTwo_0 9 rfl rfl)
theorem dX13_withTwo_10 : decode cX13_withTwo 10 = .ok (.invokevirtual 50, 3) := dk_182 0 50 (dk_at dksX13_withTwo_0 10 rfl rfl)
theorem dX13_withTwo_13 : decode cX13_withTwo 13 = .ok (.invokevirtual 54, 3) := dk_182 0 54 (dk_at dksX13_withTwo_0 13 rfl rfl)
theorem dX13_withTwo_16 : decode cX13_withTwo 16 = .ok (.ldc 58, 2) := dk_18 58 (dk_at dksX13_withTwo_0 16 rfl rfl)
theorem dX13_withTwo_18 : decode cX13_withTwo 18 = .ok (.invokevirtual 54, 3) := dk_182 0 54 (dk_at dksX13_withTwo_0 18 rfl rfl)
theorem dX13_withTwo_21 : decode cX13_withTwo 21 = .ok (.invokevirtual 60, 3) := dk_182 0 60 (dk_at dksX13_withTwo_0 21 rfl rfl)
theorem dX13_withTwo_24 : decode cX13_withTwo 24 = .ok (.invokevirtual 64, 3) := dk_182 0 64 (dk_at dksX13_withTwo_1 0 rfl rfl)
theorem dX13_withTwo_27 : decode cX13_withTwo 27 = .ok (.aload_n 0, 1) := dk_42 (dk_at dksX13_withTwo_1 3 rfl rfl)
theorem dX13_withTwo_28 : decode cX13_withTwo 28 = .ok (.invokevirtual 70, 3) := dk_182 0 70 (dk_at dksX13_withTwo_1 4 rfl rfl)
theorem dX13_withTwo_31 : decode cX13_withTwo 31 = .ok (.istore_n 2, 1) := dk_61 (dk_at dksX13_withTwo_1 7 rfl rfl)
theorem dX13_withTwo_32 : decode cX13_withTwo 32 = .ok (.aload_n 0, 1) := dk_42 (dk_at dksX13_withTwo_1 8 rfl rfl)
theorem dX13_withTwo_33 : decode cX13_withTwo 33 = .ok (.ldc 76, 2) := dk_18 76 (dk_at dksX13_withTwo_1 9 rfl rfl)
theorem dX13_withTwo_35 : decode cX13_withTwo 35 = .ok (.invokevirtual 64, 3) := dk_182 0 64 (dk_at dksX13_withTwo_1 11 rfl rfl)
theorem dX13_withTwo_38 : decode cX13_withTwo 38 = .ok (.aload_n 0, 1) := dk_42 (dk_at dksX13_withTwo_1 14 rfl rfl)
theorem dX13_withTwo_39 : decode cX13_withTwo 39 = .ok (.bipush 45, 2) := dk_16 45 (dk_at dksX13_withTwo_1 15 rfl rfl)
theorem dX13_withTwo_41 : decode cX13_withTwo 41 = .ok (.invokevirtual 36, 3) := dk_182 0 36 (dk_at dksX13_withTwo_1 17 rfl rfl)
theorem dX13_withTwo_44 : decode cX13_withTwo 44 = .ok (.istore_n 3, 1) := dk_62 (dk_at dksX13_withTwo_1 20 rfl rfl)
theorem dX13_withTwo_45 : decode cX13_withTwo 45 = .ok (.aload_n 0, 1) := dk_42 (dk_at dksX13_withTwo_1 21 rfl rfl)
theorem dX13_withTwo_46 : decode cX13_withTwo 46 = .ok (.invokevirtual 70, 3) := dk_182 0 70 (dk_at dksX13_withTwo_2 0 rfl rfl)
theorem dX13_withTwo_49 : decode cX13_withTwo 49 = .ok (.istore 4, 2) := dk_54 4 (dk_at dksX13_withTwo_2 3 rfl rfl)
theorem dX13_withTwo_51 : decode cX13_withTwo 51 = .ok (.new 68, 3) := dk_187 0 68 (dk_at dksX13_withTwo_2 5 rfl rfl)
theorem dX13_withTwo_54 : decode cX13_withTwo 54 = .ok (.dup, 1) := dk_89 (dk_at dksX13_withTwo_2 8 rfl rfl)
theorem dX13_withTwo_55 : decode cX13_withTwo 55 = .ok (.aload_n 1, 1) := dk_43 (dk_at dksX13_withTwo_2 9 rfl rfl)
theorem dX13_withTwo_56 : decode cX13_withTwo 56 = .ok (.iload_n 2, 1) := dk_28 (dk_at dksX13_withTwo_2 10 rfl rfl)
theorem dX13_withTwo_57 : decode cX13_withTwo 57 = .ok (.iload_n 3, 1) := dk_29 (dk_at dksX13_withTwo_2 11 rfl rfl)
theorem dX13_withTwo_58 : decode cX13_withTwo 58 = .ok (.ifCond .eq 9, 3) := dk_153 0 9 (dk_at dksX13_withTwo_2 12 rfl rfl)
theorem dX13_withTwo_61 : decode cX13_withTwo 61 = .ok (.iload 4, 2) := dk_21 4 (dk_at dksX13_withTwo_2 15 rfl rfl)
theorem dX13_withTwo_63 : decode cX13_withTwo 63 = .ok (.ineg, 1) := dk_116 (dk_at dksX13_withTwo_2 17 rfl rfl)
theorem dX13_withTwo_64 : decode cX13_withTwo 64 = .ok (.goto 5, 3) := dk_167 0 5 (dk_at dksX13_withTwo_2 18 rfl rfl)
theorem dX13_withTwo_67 : decode cX13_withTwo 67 = .ok (.iload 4, 2) := dk_21 4 (dk_at dksX13_withTwo_2 21 rfl rfl)
theorem dX13_withTwo_69 : decode cX13_withTwo 69 = .ok (.invokespecial 73, 3) := dk_183 0 73 (dk_at dksX13_withTwo_3 0 rfl rfl)
theorem dX13_withTwo_72 : decode cX13_withTwo 72 = .ok (.areturn, 1) := dk_176 (dk_at dksX13_withTwo_3 3 rfl rfl)
abbrev cX13_withF : ByteArray := prog_11_method_10_code
def yX13_withF : MethodName := ⟨RX13, "withF", "()LWordCache$Order;"⟩
def dkwX13_withF_1 : List UInt8 := [187, 0, 68, 89, 18, 86, 3, 3, 183, 0, 73, 176]
abbrev dktX13_withF_1 : List UInt8 := dkwX13_withF_1 ++ []
def dkwX13_withF_0 : List UInt8 := [42, 16, 114, 16, 114, 182, 0, 27, 153, 0, 10, 42, 18, 78, 182, 0, 80, 176, 42, 18, 84, 182, 0, 64]
abbrev dktX13_withF_0 : List UInt8 := dkwX13_withF_0 ++ dktX13_withF_1
theorem dksX13_withF_0 : cX13_withF.data.toList.drop 0 = dktX13_withF_0 := by decide +kernel
theorem dksX13_withF_1 : cX13_withF.data.toList.drop 24 = dktX13_withF_1 := dk_seg dksX13_withF_0 24 rfl rfl
theorem dX13_withF_0 : decode cX13_withF 0 = .ok (.aload_n 0, 1) := dk_42 (dk_at dksX13_withF_0 0 rfl rfl)
theorem dX13_withF_1 : decode cX13_withF 1 = .ok (.bipush 114, 2) := dk_16 114 (dk_at dksX13_withF_0 1 rfl rfl)
theorem dX13_withF_3 : decode cX13_withF 3 = .ok (.bipush 114, 2) := dk_16 114 (dk_at dksX13_withF_0 3 rfl rfl)
theorem dX13_withF_5 : decode cX13_withF 5 = .ok (.invokevirtual 27, 3) := dk_182 0 27 (dk_at dksX13_withF_0 5 rfl rfl)
theorem dX13_withF_8 : decode cX13_withF 8 = .ok (.ifCond .eq 10, 3) := dk_153 0 10 (dk_at dksX13_withF_0 8 rfl rfl)
theorem dX13_withF_11 : decode cX13_withF 11 = .ok (.aload_n 0, 1) := dk_42 (dk_at dksX13_withF_0 11 rfl rfl)
theorem dX13_withF_12 : decode cX13_withF 12 = .ok (.ldc 78, 2) := dk_18 78 (dk_at dksX13_withF_0 12 rfl rfl)
theorem dX13_withF_14 : decode cX13_withF 14 = .ok (.invokevirtual 80, 3) := dk_182 0 80 (dk_at dksX13_withF_0 14 rfl rfl)
theorem dX13_withF_17 : decode cX13_withF 17 = .ok (.areturn, 1) := dk_176 (dk_at dksX13_withF_0 17 rfl rfl)
theorem dX13_withF_18 : decode cX13_withF 18 = .ok (.aload_n 0, 1) := dk_42 (dk_at dksX13_withF_0 18 rfl rfl)
theorem dX13_withF_19 : decode cX13_withF 19 = .ok (.ldc 84, 2) := dk_18 84 (dk_at dksX13_withF_0 19 rfl rfl)
theorem dX13_withF_21 : decode cX13_withF 21 = .ok (.invokevirtual 64, 3) := dk_182 0 64 (dk_at dksX13_withF_0 21 rfl rfl)
theorem dX13_withF_24 : decode cX13_withF 24 = .ok (.new 68, 3) := dk_187 0 68 (dk_at dksX13_withF_1 0 rfl rfl)
theorem dX13_withF_27 : decode cX13_withF 27 = .ok (.dup, 1) := dk_89 (dk_at dksX13_withF_1 3 rfl rfl)
theorem dX13_withF_28 : decode cX13_withF 28 = .ok (.ldc 86, 2) := dk_18 86 (dk_at dksX13_withF_1 4 rfl rfl)
theorem dX13_withF_30 : decode cX13_withF 30 = .ok (.iconst 0, 1) := dk_3 (dk_at dksX13_withF_1 6 rfl rfl)
theorem dX13_withF_31 : decode cX13_withF 31 = .ok (.iconst 0, 1) := dk_3 (dk_at dksX13_withF_1 7 rfl rfl)
theorem dX13_withF_32 : decode cX13_withF 32 = .ok (.invokespecial 73, 3) := dk_183 0 73 (dk_at dksX13_withF_1 8 rfl rfl)
theorem dX13_withF_35 : decode cX13_withF 35 = .ok (.areturn, 1) := dk_176 (dk_at dksX13_withF_1 11 rfl rfl)
abbrev cX14_init : ByteArray := prog_13_method_1_code
def yX14_init : MethodName := ⟨RX14, "<init>", "(I)V"⟩
def dkwX14_init_0 : List UInt8 := [42, 183, 0, 1, 42, 27, 181, 0, 7, 177]
abbrev dktX14_init_0 : List UInt8 := dkwX14_init_0 ++ []
theorem dksX14_init_0 : cX14_init.data.toList.drop 0 = dktX14_init_0 := by decide +kernel
theorem dX14_init_0 : decode cX14_init 0 = .ok (.aload_n 0, 1) := dk_42 (dk_at dksX14_init_0 0 rfl rfl)
theorem dX14_init_1 : decode cX14_init 1 = .ok (.invokespecial 1, 3) := dk_183 0 1 (dk_at dksX14_init_0 1 rfl rfl)
theorem dX14_init_4 : decode cX14_init 4 = .ok (.aload_n 0, 1) := dk_42 (dk_at dksX14_init_0 4 rfl rfl)
theorem dX14_init_5 : decode cX14_init 5 = .ok (.iload_n 1, 1) := dk_27 (dk_at dksX14_init_0 5 rfl rfl)
theorem dX14_init_6 : decode cX14_init 6 = .ok (.putfield 7, 3) := dk_181 0 7 (dk_at dksX14_init_0 6 rfl rfl)
theorem dX14_init_9 : decode cX14_init 9 = .ok (.return_, 1) := dk_177 (dk_at dksX14_init_0 9 rfl rfl)
