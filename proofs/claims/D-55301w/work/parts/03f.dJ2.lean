set_option maxRecDepth 100000
abbrev cJ7_newLength : ByteArray := prog_90_method_27_code
def yJ7_newLength : MethodName := ⟨RJ7, "newLength", "(III)I"⟩
def dkwJ7_newLength_1 : List UInt8 := [184, 0, 201, 172]
abbrev dktJ7_newLength_1 : List UInt8 := dkwJ7_newLength_1 ++ []
def dkwJ7_newLength_0 : List UInt8 := [26, 27, 28, 184, 0, 194, 96, 62, 3, 29, 162, 0, 11, 29, 18, 200, 163, 0, 5, 29, 172, 26, 27]
abbrev dktJ7_newLength_0 : List UInt8 := dkwJ7_newLength_0 ++ dktJ7_newLength_1
theorem dksJ7_newLength_0 : cJ7_newLength.data.toList.drop 0 = dktJ7_newLength_0 := by decide +kernel
theorem dksJ7_newLength_1 : cJ7_newLength.data.toList.drop 23 = dktJ7_newLength_1 := dk_seg dksJ7_newLength_0 23 rfl rfl
theorem dJ7_newLength_0 : decode cJ7_newLength 0 = .ok (.iload_n 0, 1) := dk_26 (dk_at dksJ7_newLength_0 0 rfl rfl)
theorem dJ7_newLength_1 : decode cJ7_newLength 1 = .ok (.iload_n 1, 1) := dk_27 (dk_at dksJ7_newLength_0 1 rfl rfl)
theorem dJ7_newLength_2 : decode cJ7_newLength 2 = .ok (.iload_n 2, 1) := dk_28 (dk_at dksJ7_newLength_0 2 rfl rfl)
theorem dJ7_newLength_3 : decode cJ7_newLength 3 = .ok (.invokestatic 194, 3) := dk_184 0 194 (dk_at dksJ7_newLength_0 3 rfl rfl)
theorem dJ7_newLength_6 : decode cJ7_newLength 6 = .ok (.iadd, 1) := dk_96 (dk_at dksJ7_newLength_0 6 rfl rfl)
theorem dJ7_newLength_7 : decode cJ7_newLength 7 = .ok (.istore_n 3, 1) := dk_62 (dk_at dksJ7_newLength_0 7 rfl rfl)
theorem dJ7_newLength_8 : decode cJ7_newLength 8 = .ok (.iconst 0, 1) := dk_3 (dk_at dksJ7_newLength_0 8 rfl rfl)
theorem dJ7_newLength_9 : decode cJ7_newLength 9 = .ok (.iload_n 3, 1) := dk_29 (dk_at dksJ7_newLength_0 9 rfl rfl)
theorem dJ7_newLength_10 : decode cJ7_newLength 10 = .ok (.if_icmp .ge 11, 3) := dk_162 0 11 (dk_at dksJ7_newLength_0 10 rfl rfl)
theorem dJ7_newLength_13 : decode cJ7_newLength 13 = .ok (.iload_n 3, 1) := dk_29 (dk_at dksJ7_newLength_0 13 rfl rfl)
theorem dJ7_newLength_14 : decode cJ7_newLength 14 = .ok (.ldc 200, 2) := dk_18 200 (dk_at dksJ7_newLength_0 14 rfl rfl)
theorem dJ7_newLength_16 : decode cJ7_newLength 16 = .ok (.if_icmp .gt 5, 3) := dk_163 0 5 (dk_at dksJ7_newLength_0 16 rfl rfl)
theorem dJ7_newLength_19 : decode cJ7_newLength 19 = .ok (.iload_n 3, 1) := dk_29 (dk_at dksJ7_newLength_0 19 rfl rfl)
theorem dJ7_newLength_20 : decode cJ7_newLength 20 = .ok (.ireturn, 1) := dk_172 (dk_at dksJ7_newLength_0 20 rfl rfl)
theorem dJ7_newLength_21 : decode cJ7_newLength 21 = .ok (.iload_n 0, 1) := dk_26 (dk_at dksJ7_newLength_0 21 rfl rfl)
theorem dJ7_newLength_22 : decode cJ7_newLength 22 = .ok (.iload_n 1, 1) := dk_27 (dk_at dksJ7_newLength_0 22 rfl rfl)
theorem dJ7_newLength_23 : decode cJ7_newLength 23 = .ok (.invokestatic 201, 3) := dk_184 0 201 (dk_at dksJ7_newLength_1 0 rfl rfl)
theorem dJ7_newLength_26 : decode cJ7_newLength 26 = .ok (.ireturn, 1) := dk_172 (dk_at dksJ7_newLength_1 3 rfl rfl)
abbrev cJ7_hugeLength : ByteArray := prog_90_method_28_code
def yJ7_hugeLength : MethodName := ⟨RJ7, "hugeLength", "(II)I"⟩
def dkwJ7_hugeLength_2 : List UInt8 := [191, 28, 18, 200, 163, 0, 6, 18, 200, 172, 28, 172]
abbrev dktJ7_hugeLength_2 : List UInt8 := dkwJ7_hugeLength_2 ++ []
def dkwJ7_hugeLength_1 : List UInt8 := [26, 182, 0, 98, 18, 208, 182, 0, 94, 27, 182, 0, 98, 18, 210, 182, 0, 94, 182, 0, 101, 183, 0, 212]
abbrev dktJ7_hugeLength_1 : List UInt8 := dkwJ7_hugeLength_1 ++ dktJ7_hugeLength_2
def dkwJ7_hugeLength_0 : List UInt8 := [26, 27, 96, 61, 28, 156, 0, 44, 187, 0, 204, 89, 187, 0, 89, 89, 183, 0, 91, 18, 206, 182, 0, 94]
abbrev dktJ7_hugeLength_0 : List UInt8 := dkwJ7_hugeLength_0 ++ dktJ7_hugeLength_1
theorem dksJ7_hugeLength_0 : cJ7_hugeLength.data.toList.drop 0 = dktJ7_hugeLength_0 := by decide +kernel
theorem dksJ7_hugeLength_1 : cJ7_hugeLength.data.toList.drop 24 = dktJ7_hugeLength_1 := dk_seg dksJ7_hugeLength_0 24 rfl rfl
theorem dksJ7_hugeLength_2 : cJ7_hugeLength.data.toList.drop 48 = dktJ7_hugeLength_2 := dk_seg dksJ7_hugeLength_1 24 rfl rfl
theorem dJ7_hugeLength_0 : decode cJ7_hugeLength 0 = .ok (.iload_n 0, 1) := dk_26 (dk_at dksJ7_hugeLength_0 0 rfl rfl)
theorem dJ7_hugeLength_1 : decode cJ7_hugeLength 1 = .ok (.iload_n 1, 1) := dk_27 (dk_at dksJ7_hugeLength_0 1 rfl rfl)
theorem dJ7_hugeLength_2 : decode cJ7_hugeLength 2 = .ok (.iadd, 1) := dk_96 (dk_at dksJ7_hugeLength_0 2 rfl rfl)
theorem dJ7_hugeLength_3 : decode cJ7_hugeLength 3 = .ok (.istore_n 2, 1) := dk_61 (dk_at dksJ7_hugeLength_0 3 rfl rfl)
theorem dJ7_hugeLength_4 : decode cJ7_hugeLength 4 = .ok (.iload_n 2, 1) := dk_28 (dk_at dksJ7_hugeLength_0 4 rfl rfl)
theorem dJ7_hugeLength_5 : decode cJ7_hugeLength 5 = .ok (.ifCond .ge 44, 3) := dk_156 0 44 (dk_at dksJ7_hugeLength_0 5 rfl rfl)
theorem dJ7_hugeLength_8 : decode cJ7_hugeLength 8 = .ok (.new 204, 3) := dk_187 0 204 (dk_at dksJ7_hugeLength_0 8 rfl rfl)
theorem dJ7_hugeLength_11 : decode cJ7_hugeLength 11 = .ok (.dup, 1) := dk_89 (dk_at dksJ7_hugeLength_0 11 rfl rfl)
theorem dJ7_hugeLength_12 : decode cJ7_hugeLength 12 = .ok (.new 89, 3) := dk_187 0 89 (dk_at dksJ7_hugeLength_0 12 rfl rfl)
theorem dJ7_hugeLength_15 : decode cJ7_hugeLength 15 = .ok (.dup, 1) := dk_89 (dk_at dksJ7_hugeLength_0 15 rfl rfl)
theorem dJ7_hugeLength_16 : decode cJ7_hugeLength 16 = .ok (.invokespecial 91, 3) := dk_183 0 91 (dk_at dksJ7_hugeLength_0 16 rfl rfl)
theorem dJ7_hugeLength_19 : decode cJ7_hugeLength 19 = .ok (.ldc 206, 2) := dk_18 206 (dk_at dksJ7_hugeLength_0 19 rfl rfl)
theorem dJ7_hugeLength_21 : decode cJ7_hugeLength 21 = .ok (.invokevirtual 94, 3) := dk_182 0 94 (dk_at dksJ7_hugeLength_0 21 rfl rfl)
theorem dJ7_hugeLength_24 : decode cJ7_hugeLength 24 = .ok (.iload_n 0, 1) := dk_26 (dk_at dksJ7_hugeLength_1 0 rfl rfl)
theorem dJ7_hugeLength_25 : decode cJ7_hugeLength 25 = .ok (.invokevirtual 98, 3) := dk_182 0 98 (dk_at dksJ7_hugeLength_1 1 rfl rfl)
theorem dJ7_hugeLength_28 : decode cJ7_hugeLength 28 = .ok (.ldc 208, 2) := dk_18 208 (dk_at dksJ7_hugeLength_1 4 rfl rfl)
theorem dJ7_hugeLength_30 : decode cJ7_hugeLength 30 = .ok (.invokevirtual 94, 3) := dk_182 0 94 (dk_at dksJ7_hugeLength_1 6 rfl rfl)
theorem dJ7_hugeLength_33 : decode cJ7_hugeLength 33 = .ok (.iload_n 1, 1) := dk_27 (dk_at dksJ7_hugeLength_1 9 rfl rfl)
theorem dJ7_hugeLength_34 : decode cJ7_hugeLength 34 = .ok (.invokevirtual 98, 3) := dk_182 0 98 (dk_at dksJ7_hugeLength_1 10 rfl rfl)
theorem dJ7_hugeLength_37 : decode cJ7_hugeLength 37 = .ok (.ldc 210, 2) := dk_18 210 (dk_at dksJ7_hugeLength_1 13 rfl rfl)
theorem dJ7_hugeLength_39 : decode cJ7_hugeLength 39 = .ok (.invokevirtual 94, 3) := dk_182 0 94 (dk_at dksJ7_hugeLength_1 15 rfl rfl)
theorem dJ7_hugeLength_42 : decode cJ7_hugeLength 42 = .ok (.invokevirtual 101, 3) := dk_182 0 101 (dk_at dksJ7_hugeLength_1 18 rfl rfl)
theorem dJ7_hugeLength_45 : decode cJ7_hugeLength 45 = .ok (.invokespecial 212, 3) := dk_183 0 212 (dk_at dksJ7_hugeLength_1 21 rfl rfl)
theorem dJ7_hugeLength_48 : decode cJ7_hugeLength 48 = .ok (.athrow, 1) := dk_191 (dk_at dksJ7_hugeLength_2 0 rfl rfl)
theorem dJ7_hugeLength_49 : decode cJ7_hugeLength 49 = .ok (.iload_n 2, 1) := dk_28 (dk_at dksJ7_hugeLength_2 1 rfl rfl)
theorem dJ7_hugeLength_50 : decode cJ7_hugeLength 50 = .ok (.ldc 200, 2) := dk_18 200 (dk_at dksJ7_hugeLength_2 2 rfl rfl)
theorem dJ7_hugeLength_52 : decode cJ7_hugeLength 52 = .ok (.if_icmp .gt 6, 3) := dk_163 0 6 (dk_at dksJ7_hugeLength_2 4 rfl rfl)
theorem dJ7_hugeLength_55 : decode cJ7_hugeLength 55 = .ok (.ldc 200, 2) := dk_18 200 (dk_at dksJ7_hugeLength_2 7 rfl rfl)
theorem dJ7_hugeLength_57 : decode cJ7_hugeLength 57 = .ok (.ireturn, 1) := dk_172 (dk_at dksJ7_hugeLength_2 9 rfl rfl)
theorem dJ7_hugeLength_58 : decode cJ7_hugeLength 58 = .ok (.iload_n 2, 1) := dk_28 (dk_at dksJ7_hugeLength_2 10 rfl rfl)
theorem dJ7_hugeLength_59 : decode cJ7_hugeLength 59 = .ok (.ireturn, 1) := dk_172 (dk_at dksJ7_hugeLength_2 11 rfl rfl)
abbrev cJ7_mismatch : ByteArray := prog_90_method_13_code
def yJ7_mismatch : MethodName := ⟨RJ7, "mismatch", "([B[BI)I"⟩
def dkwJ7_mismatch_3 : List UInt8 := [172]
abbrev dktJ7_mismatch_3 : List UInt8 := dkwJ7_mismatch_3 ++ []
def dkwJ7_mismatch_2 : List UInt8 := [62, 29, 28, 162, 0, 20, 42, 29, 51, 43, 29, 51, 159, 0, 5, 29, 172, 132, 3, 1, 167, 255, 237, 2]
abbrev dktJ7_mismatch_2 : List UInt8 := dkwJ7_mismatch_2 ++ dktJ7_mismatch_3
def dkwJ7_mismatch_1 : List UInt8 := [43, 178, 0, 126, 133, 28, 178, 0, 129, 184, 0, 122, 62, 29, 155, 0, 5, 29, 172, 28, 29, 2, 130, 100]
abbrev dktJ7_mismatch_1 : List UInt8 := dkwJ7_mismatch_1 ++ dktJ7_mismatch_2
def dkwJ7_mismatch_0 : List UInt8 := [3, 62, 28, 16, 7, 164, 0, 44, 42, 3, 51, 43, 3, 51, 159, 0, 5, 3, 172, 42, 178, 0, 126, 133]
abbrev dktJ7_mismatch_0 : List UInt8 := dkwJ7_mismatch_0 ++ dktJ7_mismatch_1
theorem dksJ7_mismatch_0 : cJ7_mismatch.data.toList.drop 0 = dktJ7_mismatch_0 := by decide +kernel
theorem dksJ7_mismatch_1 : cJ7_mismatch.data.toList.drop 24 = dktJ7_mismatch_1 := dk_seg dksJ7_mismatch_0 24 rfl rfl
theorem dksJ7_mismatch_2 : cJ7_mismatch.data.toList.drop 48 = dktJ7_mismatch_2 := dk_seg dksJ7_mismatch_1 24 rfl rfl
theorem dksJ7_mismatch_3 : cJ7_mismatch.data.toList.drop 72 = dktJ7_mismatch_3 := dk_seg dksJ7_mismatch_2 24 rfl rfl
theorem dJ7_mismatch_0 : decode cJ7_mismatch 0 = .ok (.iconst 0, 1) := dk_3 (dk_at dksJ7_mismatch_0 0 rfl rfl)
theorem dJ7_mismatch_1 : decode cJ7_mismatch 1 = .ok (.istore_n 3, 1) := dk_62 (dk_at dksJ7_mismatch_0 1 rfl rfl)
theorem dJ7_mismatch_2 : decode cJ7_mismatch 2 = .ok (.iload_n 2, 1) := dk_28 (dk_at dksJ7_mismatch_0 2 rfl rfl)
theorem dJ7_mismatch_3 : decode cJ7_mismatch 3 = .ok (.bipush 7, 2) := dk_16 7 (dk_at dksJ7_mismatch_0 3 rfl rfl)
theorem dJ7_mismatch_5 : decode cJ7_mismatch 5 = .ok (.if_icmp .le 44, 3) := dk_164 0 44 (dk_at dksJ7_mismatch_0 5 rfl rfl)
theorem dJ7_mismatch_8 : decode cJ7_mismatch 8 = .ok (.aload_n 0, 1) := dk_42 (dk_at dksJ7_mismatch_0 8 rfl rfl)
theorem dJ7_mismatch_9 : decode cJ7_mismatch 9 = .ok (.iconst 0, 1) := dk_3 (dk_at dksJ7_mismatch_0 9 rfl rfl)
theorem dJ7_mismatch_10 : decode cJ7_mismatch 10 = .ok (.baload, 1) := dk_51 (dk_at dksJ7_mismatch_0 10 rfl rfl)
theorem dJ7_mismatch_11 : decode cJ7_mismatch 11 = .ok (.aload_n 1, 1) := dk_43 (dk_at dksJ7_mismatch_0 11 rfl rfl)
theorem dJ7_mismatch_12 : decode cJ7_mismatch 12 = .ok (.iconst 0, 1) := dk_3 (dk_at dksJ7_mismatch_0 12 rfl rfl)
theorem dJ7_mismatch_13 : decode cJ7_mismatch 13 = .ok (.baload, 1) := dk_51 (dk_at dksJ7_mismatch_0 13 rfl rfl)
theorem dJ7_mismatch_14 : decode cJ7_mismatch 14 = .ok (.if_icmp .eq 5, 3) := dk_159 0 5 (dk_at dksJ7_mismatch_0 14 rfl rfl)
theorem dJ7_mismatch_17 : decode cJ7_mismatch 17 = .ok (.iconst 0, 1) := dk_3 (dk_at dksJ7_mismatch_0 17 rfl rfl)
theorem dJ7_mismatch_18 : decode cJ7_mismatch 18 = .ok (.ireturn, 1) := dk_172 (dk_at dksJ7_mismatch_0 18 rfl rfl)
theorem dJ7_mismatch_19 : decode cJ7_mismatch 19 = .ok (.aload_n 0, 1) := dk_42 (dk_at dksJ7_mismatch_0 19 rfl rfl)
theorem dJ7_mismatch_20 : decode cJ7_mismatch 20 = .ok (.getstatic 126, 3) := dk_178 0 126 (dk_at dksJ7_mismatch_0 20 rfl rfl)
theorem dJ7_mismatch_23 : decode cJ7_mismatch 23 = .ok (.i2l, 1) := dk_133 (dk_at dksJ7_mismatch_0 23 rfl rfl)
theorem dJ7_mismatch_24 : decode cJ7_mismatch 24 = .ok (.aload_n 1, 1) := dk_43 (dk_at dksJ7_mismatch_1 0 rfl rfl)
theorem dJ7_mismatch_25 : decode cJ7_mismatch 25 = .ok (.getstatic 126, 3) := dk_178 0 126 (dk_at dksJ7_mismatch_1 1 rfl rfl)
theorem dJ7_mismatch_28 : decode cJ7_mismatch 28 = .ok (.i2l, 1) := dk_133 (dk_at dksJ7_mismatch_1 4 rfl rfl)
theorem dJ7_mismatch_29 : decode cJ7_mismatch 29 = .ok (.iload_n 2, 1) := dk_28 (dk_at dksJ7_mismatch_1 5 rfl rfl)
theorem dJ7_mismatch_30 : decode cJ7_mismatch 30 = .ok (.getstatic 129, 3) := dk_178 0 129 (dk_at dksJ7_mismatch_1 6 rfl rfl)
theorem dJ7_mismatch_33 : decode cJ7_mismatch 33 = .ok (.invokestatic 122, 3) := dk_184 0 122 (dk_at dksJ7_mismatch_1 9 rfl rfl)
theorem dJ7_mismatch_36 : decode cJ7_mismatch 36 = .ok (.istore_n 3, 1) := dk_62 (dk_at dksJ7_mismatch_1 12 rfl rfl)
theorem dJ7_mismatch_37 : decode cJ7_mismatch 37 = .ok (.iload_n 3, 1) := dk_29 (dk_at dksJ7_mismatch_1 13 rfl rfl)
theorem dJ7_mismatch_38 : decode cJ7_mismatch 38 = .ok (.ifCond .lt 5, 3) := dk_155 0 5 (dk_at dksJ7_mismatch_1 14 rfl rfl)
theorem dJ7_mismatch_41 : decode cJ7_mismatch 41 = .ok (.iload_n 3, 1) := dk_29 (dk_at dksJ7_mismatch_1 17 rfl rfl)
theorem dJ7_mismatch_42 : decode cJ7_mismatch 42 = .ok (.ireturn, 1) := dk_172 (dk_at dksJ7_mismatch_1 18 rfl rfl)
theorem dJ7_mismatch_43 : decode cJ7_mismatch 43 = .ok (.iload_n 2, 1) := dk_28 (dk_at dksJ7_mismatch_1 19 rfl rfl)
theorem dJ7_mismatch_44 : decode cJ7_mismatch 44 = .ok (.iload_n 3, 1) := dk_29 (dk_at dksJ7_mismatch_1 20 rfl rfl)
theorem dJ7_mismatch_45 : decode cJ7_mismatch 45 = .ok (.iconst (-1), 1) := dk_2 (dk_at dksJ7_mismatch_1 21 rfl rfl)
theorem dJ7_mismatch_46 : decode cJ7_mismatch 46 = .ok (.ixor, 1) := dk_130 (dk_at dksJ7_mismatch_1 22 rfl rfl)
theorem dJ7_mismatch_47 : decode cJ7_mismatch 47 = .ok (.isub, 1) := dk_100 (dk_at dksJ7_mismatch_1 23 rfl rfl)
theorem dJ7_mismatch_48 : decode cJ7_mismatch 48 = .ok (.istore_n 3, 1) := dk_62 (dk_at dksJ7_mismatch_2 0 rfl rfl)
theorem dJ7_mismatch_49 : decode cJ7_mismatch 49 = .ok (.iload_n 3, 1) := dk_29 (dk_at dksJ7_mismatch_2 1 rfl rfl)
theorem dJ7_mismatch_50 : decode cJ7_mismatch 50 = .ok (.iload_n 2, 1) := dk_28 (dk_at dksJ7_mismatch_2 2 rfl rfl)
theorem dJ7_mismatch_51 : decode cJ7_mismatch 51 = .ok (.if_icmp .ge 20, 3) := dk_162 0 20 (dk_at dksJ7_mismatch_2 3 rfl rfl)
theorem dJ7_mismatch_54 : decode cJ7_mismatch 54 = .ok (.aload_n 0, 1) := dk_42 (dk_at dksJ7_mismatch_2 6 rfl rfl)
theorem dJ7_mismatch_55 : decode cJ7_mismatch 55 = .ok (.iload_n 3, 1) := dk_29 (dk_at dksJ7_mismatch_2 7 rfl rfl)
theorem dJ7_mismatch_56 : decode cJ7_mismatch 56 = .ok (.baload, 1) := dk_51 (dk_at dksJ7_mismatch_2 8 rfl rfl)
theorem dJ7_mismatch_57 : decode cJ7_mismatch 57 = .ok (.aload_n 1, 1) := dk_43 (dk_at dksJ7_mismatch_2 9 rfl rfl)
theorem dJ7_mismatch_58 : decode cJ7_mismatch 58 = .ok (.iload_n 3, 1) := dk_29 (dk_at dksJ7_mismatch_2 10 rfl rfl)
theorem dJ7_mismatch_59 : decode cJ7_mismatch 59 = .ok (.baload, 1) := dk_51 (dk_at dksJ7_mismatch_2 11 rfl rfl)
theorem dJ7_mismatch_60 : decode cJ7_mismatch 60 = .ok (.if_icmp .eq 5, 3) := dk_159 0 5 (dk_at dksJ7_mismatch_2 12 rfl rfl)
theorem dJ7_mismatch_63 : decode cJ7_mismatch 63 = .ok (.iload_n 3, 1) := dk_29 (dk_at dksJ7_mismatch_2 15 rfl rfl)
theorem dJ7_mismatch_64 : decode cJ7_mismatch 64 = .ok (.ireturn, 1) := dk_172 (dk_at dksJ7_mismatch_2 16 rfl rfl)
theorem dJ7_mismatch_65 : decode cJ7_mismatch 65 = .ok (.iinc 3 1, 3) := dk_132 3 1 (dk_at dksJ7_mismatch_2 17 rfl rfl)
theorem dJ7_mismatch_68 : decode cJ7_mismatch 68 = .ok (.goto (-19), 3) := dk_167 255 237 (dk_at dksJ7_mismatch_2 20 rfl rfl)
theorem dJ7_mismatch_71 : decode cJ7_mismatch 71 = .ok (.iconst (-1), 1) := dk_2 (dk_at dksJ7_mismatch_2 23 rfl rfl)
theorem dJ7_mismatch_72 : decode cJ7_mismatch 72 = .ok (.ireturn, 1) := dk_172 (dk_at dksJ7_mismatch_3 0 rfl rfl)
abbrev cJ7_vectorizedMismatch : ByteArray := prog_90_method_3_code
def yJ7_vectorizedMismatch : MethodName := ⟨RJ7, "vectorizedMismatch", "(Ljava/lang/Object;JLjava/lang/Object;JII)I"⟩
def dkwJ7_vectorizedMismatch_11 : List UInt8 := [54, 10, 21, 10, 2, 130, 172, 21, 10, 2, 130, 172]
abbrev dktJ7_vectorizedMismatch_11 : List UInt8 := dkwJ7_vectorizedMismatch_11 ++ []
def dkwJ7_vectorizedMismatch_10 : List UInt8 := [178, 0, 46, 21, 7, 96, 122, 54, 17, 21, 9, 21, 8, 120, 21, 17, 96, 172, 21, 10, 21, 11, 100]
abbrev dktJ7_vectorizedMismatch_10 : List UInt8 := dkwJ7_vectorizedMismatch_10 ++ dktJ7_vectorizedMismatch_11
def dkwJ7_vectorizedMismatch_9 : List UInt8 := [153, 0, 18, 21, 16, 184, 0, 58, 178, 0, 46, 21, 7, 96, 122, 167, 0, 15, 21, 16, 184, 0, 11]
abbrev dktJ7_vectorizedMismatch_9 : List UInt8 := dkwJ7_vectorizedMismatch_9 ++ dktJ7_vectorizedMismatch_10
def dkwJ7_vectorizedMismatch_8 : List UInt8 := [182, 0, 54, 54, 15, 21, 14, 21, 15, 159, 0, 54, 21, 14, 21, 15, 130, 54, 16, 178, 0, 36]
abbrev dktJ7_vectorizedMismatch_8 : List UInt8 := dkwJ7_vectorizedMismatch_8 ++ dktJ7_vectorizedMismatch_9
def dkwJ7_vectorizedMismatch_7 : List UInt8 := [55, 12, 178, 0, 26, 42, 31, 22, 12, 97, 182, 0, 54, 54, 14, 178, 0, 26, 45, 22, 4, 22, 12, 97]
abbrev dktJ7_vectorizedMismatch_7 : List UInt8 := dkwJ7_vectorizedMismatch_7 ++ dktJ7_vectorizedMismatch_8
def dkwJ7_vectorizedMismatch_6 : List UInt8 := [4, 178, 0, 51, 21, 7, 100, 120, 54, 11, 21, 10, 21, 11, 161, 0, 104, 21, 9, 133, 178, 0, 20, 121]
abbrev dktJ7_vectorizedMismatch_6 : List UInt8 := dkwJ7_vectorizedMismatch_6 ++ dktJ7_vectorizedMismatch_7
def dkwJ7_vectorizedMismatch_5 : List UInt8 := [132, 9, 1, 167, 255, 148, 21, 6, 21, 9, 21, 8, 120, 100, 54, 10, 21, 7, 178, 0, 51, 162, 0, 126]
abbrev dktJ7_vectorizedMismatch_5 : List UInt8 := dkwJ7_vectorizedMismatch_5 ++ dktJ7_vectorizedMismatch_6
def dkwJ7_vectorizedMismatch_4 : List UInt8 := [22, 16, 184, 0, 49, 178, 0, 46, 21, 7, 96, 122, 54, 18, 21, 9, 21, 8, 120, 21, 18, 96, 172]
abbrev dktJ7_vectorizedMismatch_4 : List UInt8 := dkwJ7_vectorizedMismatch_4 ++ dktJ7_vectorizedMismatch_5
def dkwJ7_vectorizedMismatch_3 : List UInt8 := [55, 16, 178, 0, 36, 153, 0, 18, 22, 16, 184, 0, 40, 178, 0, 46, 21, 7, 96, 122, 167, 0, 15]
abbrev dktJ7_vectorizedMismatch_3 : List UInt8 := dkwJ7_vectorizedMismatch_3 ++ dktJ7_vectorizedMismatch_4
def dkwJ7_vectorizedMismatch_2 : List UInt8 := [22, 4, 22, 10, 97, 182, 0, 30, 55, 14, 22, 12, 22, 14, 148, 153, 0, 54, 22, 12, 22, 14, 131]
abbrev dktJ7_vectorizedMismatch_2 : List UInt8 := dkwJ7_vectorizedMismatch_2 ++ dktJ7_vectorizedMismatch_3
def dkwJ7_vectorizedMismatch_1 : List UInt8 := [178, 0, 20, 121, 55, 10, 178, 0, 26, 42, 31, 22, 10, 97, 182, 0, 30, 55, 12, 178, 0, 26, 45]
abbrev dktJ7_vectorizedMismatch_1 : List UInt8 := dkwJ7_vectorizedMismatch_1 ++ dktJ7_vectorizedMismatch_2
def dkwJ7_vectorizedMismatch_0 : List UInt8 := [178, 0, 20, 21, 7, 100, 54, 8, 3, 54, 9, 21, 9, 21, 6, 21, 8, 122, 162, 0, 104, 21, 9, 133]
abbrev dktJ7_vectorizedMismatch_0 : List UInt8 := dkwJ7_vectorizedMismatch_0 ++ dktJ7_vectorizedMismatch_1
theorem dksJ7_vectorizedMismatch_0 : cJ7_vectorizedMismatch.data.toList.drop 0 = dktJ7_vectorizedMismatch_0 := by decide +kernel
theorem dksJ7_vectorizedMismatch_1 : cJ7_vectorizedMismatch.data.toList.drop 24 = dktJ7_vectorizedMismatch_1 := dk_seg dksJ7_vectorizedMismatch_0 24 rfl rfl
theorem dksJ7_vectorizedMismatch_2 : cJ7_vectorizedMismatch.data.toList.drop 47 = dktJ7_vectorizedMismatch_2 := dk_seg dksJ7_vectorizedMismatch_1 23 rfl rfl
theorem dksJ7_vectorizedMismatch_3 : cJ7_vectorizedMismatch.data.toList.drop 70 = dktJ7_vectorizedMismatch_3 := dk_seg dksJ7_vectorizedMismatch_2 23 rfl rfl
theorem dksJ7_vectorizedMismatch_4 : cJ7_vectorizedMismatch.data.toList.drop 93 = dktJ7_vectorizedMismatch_4 := dk_seg dksJ7_vectorizedMismatch_3 23 rfl rfl
theorem dksJ7_vectorizedMismatch_5 : cJ7_vectorizedMismatch.data.toList.drop 116 = dktJ7_vectorizedMismatch_5 := dk_seg dksJ7_vectorizedMismatch_4 23 rfl rfl
theorem dksJ7_vectorizedMismatch_6 : cJ7_vectorizedMismatch.data.toList.drop 140 = dktJ7_vectorizedMismatch_6 := dk_seg dksJ7_vectorizedMismatch_5 24 rfl rfl
theorem dksJ7_vectorizedMismatch_7 : cJ7_vectorizedMismatch.data.toList.drop 164 = dktJ7_vectorizedMismatch_7 := dk_seg dksJ7_vectorizedMismatch_6 24 rfl rfl
theorem dksJ7_vectorizedMismatch_8 : cJ7_vectorizedMismatch.data.toList.drop 188 = dktJ7_vectorizedMismatch_8 := dk_seg dksJ7_vectorizedMismatch_7 24 rfl rfl
theorem dksJ7_vectorizedMismatch_9 : cJ7_vectorizedMismatch.data.toList.drop 210 = dktJ7_vectorizedMismatch_9 := dk_seg dksJ7_vectorizedMismatch_8 22 rfl rfl
theorem dksJ7_vectorizedMismatch_10 : cJ7_vectorizedMismatch.data.toList.drop 233 = dktJ7_vectorizedMismatch_10 := dk_seg dksJ7_vectorizedMismatch_9 23 rfl rfl
theorem dksJ7_vectorizedMismatch_11 : cJ7_vectorizedMismatch.data.toList.drop 256 = dktJ7_vectorizedMismatch_11 := dk_seg dksJ7_vectorizedMismatch_10 23 rfl rfl
theorem dJ7_vectorizedMismatch_0 : decode cJ7_vectorizedMismatch 0 = .ok (.getstatic 20, 3) := dk_178 0 20 (dk_at dksJ7_vectorizedMismatch_0 0 rfl rfl)
theorem dJ7_vectorizedMismatch_3 : decode cJ7_vectorizedMismatch 3 = .ok (.iload 7, 2) := dk_21 7 (dk_at dksJ7_vectorizedMismatch_0 3 rfl rfl)
theorem dJ7_vectorizedMismatch_5 : decode cJ7_vectorizedMismatch 5 = .ok (.isub, 1) := dk_100 (dk_at dksJ7_vectorizedMismatch_0 5 rfl rfl)
theorem dJ7_vectorizedMismatch_6 : decode cJ7_vectorizedMismatch 6 = .ok (.istore 8, 2) := dk_54 8 (dk_at dksJ7_vectorizedMismatch_0 6 rfl rfl)
theorem dJ7_vectorizedMismatch_8 : decode cJ7_vectorizedMismatch 8 = .ok (.iconst 0, 1) := dk_3 (dk_at dksJ7_vectorizedMismatch_0 8 rfl rfl)
theorem dJ7_vectorizedMismatch_9 : decode cJ7_vectorizedMismatch 9 = .ok (.istore 9, 2) := dk_54 9 (dk_at dksJ7_vectorizedMismatch_0 9 rfl rfl)
theorem dJ7_vectorizedMismatch_11 : decode cJ7_vectorizedMismatch 11 = .ok (.iload 9, 2) := dk_21 9 (dk_at dksJ7_vectorizedMismatch_0 11 rfl rfl)
theorem dJ7_vectorizedMismatch_13 : decode cJ7_vectorizedMismatch 13 = .ok (.iload 6, 2) := dk_21 6 (dk_at dksJ7_vectorizedMismatch_0 13 rfl rfl)
theorem dJ7_vectorizedMismatch_15 : decode cJ7_vectorizedMismatch 15 = .ok (.iload 8, 2) := dk_21 8 (dk_at dksJ7_vectorizedMismatch_0 15 rfl rfl)
theorem dJ7_vectorizedMismatch_17 : decode cJ7_vectorizedMismatch 17 = .ok (.ishr, 1) := dk_122 (dk_at dksJ7_vectorizedMismatch_0 17 rfl rfl)
theorem dJ7_vectorizedMismatch_18 : decode cJ7_vectorizedMismatch 18 = .ok (.if_icmp .ge 104, 3) := dk_162 0 104 (dk_at dksJ7_vectorizedMismatch_0 18 rfl rfl)
theorem dJ7_vectorizedMismatch_21 : decode cJ7_vectorizedMismatch 21 = .ok (.iload 9, 2) := dk_21 9 (dk_at dksJ7_vectorizedMismatch_0 21 rfl rfl)
theorem dJ7_vectorizedMismatch_23 : decode cJ7_vectorizedMismatch 23 = .ok (.i2l, 1) := dk_133 (dk_at dksJ7_vectorizedMismatch_0 23 rfl rfl)
theorem dJ7_vectorizedMismatch_24 : decode cJ7_vectorizedMismatch 24 = .ok (.getstatic 20, 3) := dk_178 0 20 (dk_at dksJ7_vectorizedMismatch_1 0 rfl rfl)
theorem dJ7_vectorizedMismatch_27 : decode cJ7_vectorizedMismatch 27 = .ok (.lshl, 1) := dk_121 (dk_at dksJ7_vectorizedMismatch_1 3 rfl rfl)
theorem dJ7_vectorizedMismatch_28 : decode cJ7_vectorizedMismatch 28 = .ok (.lstore 10, 2) := dk_55 10 (dk_at dksJ7_vectorizedMismatch_1 4 rfl rfl)
theorem dJ7_vectorizedMismatch_30 : decode cJ7_vectorizedMismatch 30 = .ok (.getstatic 26, 3) := dk_178 0 26 (dk_at dksJ7_vectorizedMismatch_1 6 rfl rfl)
theorem dJ7_vectorizedMismatch_33 : decode cJ7_vectorizedMismatch 33 = .ok (.aload_n 0, 1) := dk_42 (dk_at dksJ7_vectorizedMismatch_1 9 rfl rfl)
theorem dJ7_vectorizedMismatch_34 : decode cJ7_vectorizedMismatch 34 = .ok (.lload_n 1, 1) := dk_31 (dk_at dksJ7_vectorizedMismatch_1 10 rfl rfl)
theorem dJ7_vectorizedMismatch_35 : decode cJ7_vectorizedMismatch 35 = .ok (.lload 10, 2) := dk_22 10 (dk_at dksJ7_vectorizedMismatch_1 11 rfl rfl)
theorem dJ7_vectorizedMismatch_37 : decode cJ7_vectorizedMismatch 37 = .ok (.ladd, 1) := dk_97 (dk_at dksJ7_vectorizedMismatch_1 13 rfl rfl)
theorem dJ7_vectorizedMismatch_38 : decode cJ7_vectorizedMismatch 38 = .ok (.invokevirtual 30, 3) := dk_182 0 30 (dk_at dksJ7_vectorizedMismatch_1 14 rfl rfl)
theorem dJ7_vectorizedMismatch_41 : decode cJ7_vectorizedMismatch 41 = .ok (.lstore 12, 2) := dk_55 12 (dk_at dksJ7_vectorizedMismatch_1 17 rfl rfl)
theorem dJ7_vectorizedMismatch_43 : decode cJ7_vectorizedMismatch 43 = .ok (.getstatic 26, 3) := dk_178 0 26 (dk_at dksJ7_vectorizedMismatch_1 19 rfl rfl)
theorem dJ7_vectorizedMismatch_46 : decode cJ7_vectorizedMismatch 46 = .ok (.aload_n 3, 1) := dk_45 (dk_at dksJ7_vectorizedMismatch_1 22 rfl rfl)
theorem dJ7_vectorizedMismatch_47 : decode cJ7_vectorizedMismatch 47 = .ok (.lload 4, 2) := dk_22 4 (dk_at dksJ7_vectorizedMismatch_2 0 rfl rfl)
theorem dJ7_vectorizedMismatch_49 : decode cJ7_vectorizedMismatch 49 = .ok (.lload 10, 2) := dk_22 10 (dk_at dksJ7_vectorizedMismatch_2 2 rfl rfl)
theorem dJ7_vectorizedMismatch_51 : decode cJ7_vectorizedMismatch 51 = .ok (.ladd, 1) := dk_97 (dk_at dksJ7_vectorizedMismatch_2 4 rfl rfl)
theorem dJ7_vectorizedMismatch_52 : decode cJ7_vectorizedMismatch 52 = .ok (.invokevirtual 30, 3) := dk_182 0 30 (dk_at dksJ7_vectorizedMismatch_2 5 rfl rfl)
theorem dJ7_vectorizedMismatch_55 : decode cJ7_vectorizedMismatch 55 = .ok (.lstore 14, 2) := dk_55 14 (dk_at dksJ7_vectorizedMismatch_2 8 rfl rfl)
theorem dJ7_vectorizedMismatch_57 : decode cJ7_vectorizedMismatch 57 = .ok (.lload 12, 2) := dk_22 12 (dk_at dksJ7_vectorizedMismatch_2 10 rfl rfl)
theorem dJ7_vectorizedMismatch_59 : decode cJ7_vectorizedMismatch 59 = .ok (.lload 14, 2) := dk_22 14 (dk_at dksJ7_vectorizedMismatch_2 12 rfl rfl)
theorem dJ7_vectorizedMismatch_61 : decode cJ7_vectorizedMismatch 61 = .ok (.lcmp, 1) := dk_148 (dk_at dksJ7_vectorizedMismatch_2 14 rfl rfl)
theorem dJ7_vectorizedMismatch_62 : decode cJ7_vectorizedMismatch 62 = .ok (.ifCond .eq 54, 3) := dk_153 0 54 (dk_at dksJ7_vectorizedMismatch_2 15 rfl rfl)
theorem dJ7_vectorizedMismatch_65 : decode cJ7_vectorizedMismatch 65 = .ok (.lload 12, 2) := dk_22 12 (dk_at dksJ7_vectorizedMismatch_2 18 rfl rfl)
theorem dJ7_vectorizedMismatch_67 : decode cJ7_vectorizedMismatch 67 = .ok (.lload 14, 2) := dk_22 14 (dk_at dksJ7_vectorizedMismatch_2 20 rfl rfl)
theorem dJ7_vectorizedMismatch_69 : decode cJ7_vectorizedMismatch 69 = .ok (.lxor, 1) := dk_131 (dk_at dksJ7_vectorizedMismatch_2 22 rfl rfl)
theorem dJ7_vectorizedMismatch_70 : decode cJ7_vectorizedMismatch 70 = .ok (.lstore 16, 2) := dk_55 16 (dk_at dksJ7_vectorizedMismatch_3 0 rfl rfl)
theorem dJ7_vectorizedMismatch_72 : decode cJ7_vectorizedMismatch 72 = .ok (.getstatic 36, 3) := dk_178 0 36 (dk_at dksJ7_vectorizedMismatch_3 2 rfl rfl)
theorem dJ7_vectorizedMismatch_75 : decode cJ7_vectorizedMismatch 75 = .ok (.ifCond .eq 18, 3) := dk_153 0 18 (dk_at dksJ7_vectorizedMismatch_3 5 rfl rfl)
theorem dJ7_vectorizedMismatch_78 : decode cJ7_vectorizedMismatch 78 = .ok (.lload 16, 2) := dk_22 16 (dk_at dksJ7_vectorizedMismatch_3 8 rfl rfl)
theorem dJ7_vectorizedMismatch_80 : decode cJ7_vectorizedMismatch 80 = .ok (.invokestatic 40, 3) := dk_184 0 40 (dk_at dksJ7_vectorizedMismatch_3 10 rfl rfl)
theorem dJ7_vectorizedMismatch_83 : decode cJ7_vectorizedMismatch 83 = .ok (.getstatic 46, 3) := dk_178 0 46 (dk_at dksJ7_vectorizedMismatch_3 13 rfl rfl)
theorem dJ7_vectorizedMismatch_86 : decode cJ7_vectorizedMismatch 86 = .ok (.iload 7, 2) := dk_21 7 (dk_at dksJ7_vectorizedMismatch_3 16 rfl rfl)
theorem dJ7_vectorizedMismatch_88 : decode cJ7_vectorizedMismatch 88 = .ok (.iadd, 1) := dk_96 (dk_at dksJ7_vectorizedMismatch_3 18 rfl rfl)
theorem dJ7_vectorizedMismatch_89 : decode cJ7_vectorizedMismatch 89 = .ok (.ishr, 1) := dk_122 (dk_at dksJ7_vectorizedMismatch_3 19 rfl rfl)
theorem dJ7_vectorizedMismatch_90 : decode cJ7_vectorizedMismatch 90 = .ok (.goto 15, 3) := dk_167 0 15 (dk_at dksJ7_vectorizedMismatch_3 20 rfl rfl)
theorem dJ7_vectorizedMismatch_93 : decode cJ7_vectorizedMismatch 93 = .ok (.lload 16, 2) := dk_22 16 (dk_at dksJ7_vectorizedMismatch_4 0 rfl rfl)
theorem dJ7_vectorizedMismatch_95 : decode cJ7_vectorizedMismatch 95 = .ok (.invokestatic 49, 3) := dk_184 0 49 (dk_at dksJ7_vectorizedMismatch_4 2 rfl rfl)
theorem dJ7_vectorizedMismatch_98 : decode cJ7_vectorizedMismatch 98 = .ok (.getstatic 46, 3) := dk_178 0 46 (dk_at dksJ7_vectorizedMismatch_4 5 rfl rfl)
theorem dJ7_vectorizedMismatch_101 : decode cJ7_vectorizedMismatch 101 = .ok (.iload 7, 2) := dk_21 7 (dk_at dksJ7_vectorizedMismatch_4 8 rfl rfl)
theorem dJ7_vectorizedMismatch_103 : decode cJ7_vectorizedMismatch 103 = .ok (.iadd, 1) := dk_96 (dk_at dksJ7_vectorizedMismatch_4 10 rfl rfl)
theorem dJ7_vectorizedMismatch_104 : decode cJ7_vectorizedMismatch 104 = .ok (.ishr, 1) := dk_122 (dk_at dksJ7_vectorizedMismatch_4 11 rfl rfl)
theorem dJ7_vectorizedMismatch_105 : decode cJ7_vectorizedMismatch 105 = .ok (.istore 18, 2) := dk_54 18 (dk_at dksJ7_vectorizedMismatch_4 12 rfl rfl)
theorem dJ7_vectorizedMismatch_107 : decode cJ7_vectorizedMismatch 107 = .ok (.iload 9, 2) := dk_21 9 (dk_at dksJ7_vectorizedMismatch_4 14 rfl rfl)
theorem dJ7_vectorizedMismatch_109 : decode cJ7_vectorizedMismatch 109 = .ok (.iload 8, 2) := dk_21 8 (dk_at dksJ7_vectorizedMismatch_4 16 rfl rfl)
theorem dJ7_vectorizedMismatch_111 : decode cJ7_vectorizedMismatch 111 = .ok (.ishl, 1) := dk_120 (dk_at dksJ7_vectorizedMismatch_4 18 rfl rfl)
theorem dJ7_vectorizedMismatch_112 : decode cJ7_vectorizedMismatch 112 = .ok (.iload 18, 2) := dk_21 18 (dk_at dksJ7_vectorizedMismatch_4 19 rfl rfl)
theorem dJ7_vectorizedMismatch_114 : decode cJ7_vectorizedMismatch 114 = .ok (.iadd, 1) := dk_96 (dk_at dksJ7_vectorizedMismatch_4 21 rfl rfl)
theorem dJ7_vectorizedMismatch_115 : decode cJ7_vectorizedMismatch 115 = .ok (.ireturn, 1) := dk_172 (dk_at dksJ7_vectorizedMismatch_4 22 rfl rfl)
theorem dJ7_vectorizedMismatch_116 : decode cJ7_vectorizedMismatch 116 = .ok (.iinc 9 1, 3) := dk_132 9 1 (dk_at dksJ7_vectorizedMismatch_5 0 rfl rfl)
theorem dJ7_vectorizedMismatch_119 : decode cJ7_vectorizedMismatch 119 = .ok (.goto (-108), 3) := dk_167 255 148 (dk_at dksJ7_vectorizedMismatch_5 3 rfl rfl)
theorem dJ7_vectorizedMismatch_122 : decode cJ7_vectorizedMismatch 122 = .ok (.iload 6, 2) := dk_21 6 (dk_at dksJ7_vectorizedMismatch_5 6 rfl rfl)
theorem dJ7_vectorizedMismatch_124 : decode cJ7_vectorizedMismatch 124 = .ok (.iload 9, 2) := dk_21 9 (dk_at dksJ7_vectorizedMismatch_5 8 rfl rfl)
theorem dJ7_vectorizedMismatch_126 : decode cJ7_vectorizedMismatch 126 = .ok (.iload 8, 2) := dk_21 8 (dk_at dksJ7_vectorizedMismatch_5 10 rfl rfl)
theorem dJ7_vectorizedMismatch_128 : decode cJ7_vectorizedMismatch 128 = .ok (.ishl, 1) := dk_120 (dk_at dksJ7_vectorizedMismatch_5 12 rfl rfl)
theorem dJ7_vectorizedMismatch_129 : decode cJ7_vectorizedMismatch 129 = .ok (.isub, 1) := dk_100 (dk_at dksJ7_vectorizedMismatch_5 13 rfl rfl)
theorem dJ7_vectorizedMismatch_130 : decode cJ7_vectorizedMismatch 130 = .ok (.istore 10, 2) := dk_54 10 (dk_at dksJ7_vectorizedMismatch_5 14 rfl rfl)
theorem dJ7_vectorizedMismatch_132 : decode cJ7_vectorizedMismatch 132 = .ok (.iload 7, 2) := dk_21 7 (dk_at dksJ7_vectorizedMismatch_5 16 rfl rfl)
theorem dJ7_vectorizedMismatch_134 : decode cJ7_vectorizedMismatch 134 = .ok (.getstatic 51, 3) := dk_178 0 51 (dk_at dksJ7_vectorizedMismatch_5 18 rfl rfl)
theorem dJ7_vectorizedMismatch_137 : decode cJ7_vectorizedMismatch 137 = .ok (.if_icmp .ge 126, 3) := dk_162 0 126 (dk_at dksJ7_vectorizedMismatch_5 21 rfl rfl)
theorem dJ7_vectorizedMismatch_140 : decode cJ7_vectorizedMismatch 140 = .ok (.iconst 1, 1) := dk_4 (dk_at dksJ7_vectorizedMismatch_6 0 rfl rfl)
theorem dJ7_vectorizedMismatch_141 : decode cJ7_vectorizedMismatch 141 = .ok (.getstatic 51, 3) := dk_178 0 51 (dk_at dksJ7_vectorizedMismatch_6 1 rfl rfl)
theorem dJ7_vectorizedMismatch_144 : decode cJ7_vectorizedMismatch 144 = .ok (.iload 7, 2) := dk_21 7 (dk_at dksJ7_vectorizedMismatch_6 4 rfl rfl)
theorem dJ7_vectorizedMismatch_146 : decode cJ7_vectorizedMismatch 146 = .ok (.isub, 1) := dk_100 (dk_at dksJ7_vectorizedMismatch_6 6 rfl rfl)
theorem dJ7_vectorizedMismatch_147 : decode cJ7_vectorizedMismatch 147 = .ok (.ishl, 1) := dk_120 (dk_at dksJ7_vectorizedMismatch_6 7 rfl rfl)
theorem dJ7_vectorizedMismatch_148 : decode cJ7_vectorizedMismatch 148 = .ok (.istore 11, 2) := dk_54 11 (dk_at dksJ7_vectorizedMismatch_6 8 rfl rfl)
theorem dJ7_vectorizedMismatch_150 : decode cJ7_vectorizedMismatch 150 = .ok (.iload 10, 2) := dk_21 10 (dk_at dksJ7_vectorizedMismatch_6 10 rfl rfl)
theorem dJ7_vectorizedMismatch_152 : decode cJ7_vectorizedMismatch 152 = .ok (.iload 11, 2) := dk_21 11 (dk_at dksJ7_vectorizedMismatch_6 12 rfl rfl)
theorem dJ7_vectorizedMismatch_154 : decode cJ7_vectorizedMismatch 154 = .ok (.if_icmp .lt 104, 3) := dk_161 0 104 (dk_at dksJ7_vectorizedMismatch_6 14 rfl rfl)
theorem dJ7_vectorizedMismatch_157 : decode cJ7_vectorizedMismatch 157 = .ok (.iload 9, 2) := dk_21 9 (dk_at dksJ7_vectorizedMismatch_6 17 rfl rfl)
theorem dJ7_vectorizedMismatch_159 : decode cJ7_vectorizedMismatch 159 = .ok (.i2l, 1) := dk_133 (dk_at dksJ7_vectorizedMismatch_6 19 rfl rfl)
theorem dJ7_vectorizedMismatch_160 : decode cJ7_vectorizedMismatch 160 = .ok (.getstatic 20, 3) := dk_178 0 20 (dk_at dksJ7_vectorizedMismatch_6 20 rfl rfl)
theorem dJ7_vectorizedMismatch_163 : decode cJ7_vectorizedMismatch 163 = .ok (.lshl, 1) := dk_121 (dk_at dksJ7_vectorizedMismatch_6 23 rfl rfl)
theorem dJ7_vectorizedMismatch_164 : decode cJ7_vectorizedMismatch 164 = .ok (.lstore 12, 2) := dk_55 12 (dk_at dksJ7_vectorizedMismatch_7 0 rfl rfl)
theorem dJ7_vectorizedMismatch_166 : decode cJ7_vectorizedMismatch 166 = .ok (.getstatic 26, 3) := dk_178 0 26 (dk_at dksJ7_vectorizedMismatch_7 2 rfl rfl)
theorem dJ7_vectorizedMismatch_169 : decode cJ7_vectorizedMismatch 169 = .ok (.aload_n 0, 1) := dk_42 (dk_at dksJ7_vectorizedMismatch_7 5 rfl rfl)
theorem dJ7_vectorizedMismatch_170 : decode cJ7_vectorizedMismatch 170 = .ok (.lload_n 1, 1) := dk_31 (dk_at dksJ7_vectorizedMismatch_7 6 rfl rfl)
theorem dJ7_vectorizedMismatch_171 : decode cJ7_vectorizedMismatch 171 = .ok (.lload 12, 2) := dk_22 12 (dk_at dksJ7_vectorizedMismatch_7 7 rfl rfl)
theorem dJ7_vectorizedMismatch_173 : decode cJ7_vectorizedMismatch 173 = .ok (.ladd, 1) := dk_97 (dk_at dksJ7_vectorizedMismatch_7 9 rfl rfl)
theorem dJ7_vectorizedMismatch_174 : decode cJ7_vectorizedMismatch 174 = .ok (.invokevirtual 54, 3) := dk_182 0 54 (dk_at dksJ7_vectorizedMismatch_7 10 rfl rfl)
theorem dJ7_vectorizedMismatch_177 : decode cJ7_vectorizedMismatch 177 = .ok (.istore 14, 2) := dk_54 14 (dk_at dksJ7_vectorizedMismatch_7 13 rfl rfl)
theorem dJ7_vectorizedMismatch_179 : decode cJ7_vectorizedMismatch 179 = .ok (.getstatic 26, 3) := dk_178 0 26 (dk_at dksJ7_vectorizedMismatch_7 15 rfl rfl)
theorem dJ7_vectorizedMismatch_182 : decode cJ7_vectorizedMismatch 182 = .ok (.aload_n 3, 1) := dk_45 (dk_at dksJ7_vectorizedMismatch_7 18 rfl rfl)
theorem dJ7_vectorizedMismatch_183 : decode cJ7_vectorizedMismatch 183 = .ok (.lload 4, 2) := dk_22 4 (dk_at dksJ7_vectorizedMismatch_7 19 rfl rfl)
theorem dJ7_vectorizedMismatch_185 : decode cJ7_vectorizedMismatch 185 = .ok (.lload 12, 2) := dk_22 12 (dk_at dksJ7_vectorizedMismatch_7 21 rfl rfl)
theorem dJ7_vectorizedMismatch_187 : decode cJ7_vectorizedMismatch 187 = .ok (.ladd, 1) := dk_97 (dk_at dksJ7_vectorizedMismatch_7 23 rfl rfl)
theorem dJ7_vectorizedMismatch_188 : decode cJ7_vectorizedMismatch 188 = .ok (.invokevirtual 54, 3) := dk_182 0 54 (dk_at dksJ7_vectorizedMismatch_8 0 rfl rfl)
theorem dJ7_vectorizedMismatch_191 : decode cJ7_vectorizedMismatch 191 = .ok (.istore 15, 2) := dk_54 15 (dk_at dksJ7_vectorizedMismatch_8 3 rfl rfl)
theorem dJ7_vectorizedMismatch_193 : decode cJ7_vectorizedMismatch 193 = .ok (.iload 14, 2) := dk_21 14 (dk_at dksJ7_vectorizedMismatch_8 5 rfl rfl)
theorem dJ7_vectorizedMismatch_195 : decode cJ7_vectorizedMismatch 195 = .ok (.iload 15, 2) := dk_21 15 (dk_at dksJ7_vectorizedMismatch_8 7 rfl rfl)
theorem dJ7_vectorizedMismatch_197 : decode cJ7_vectorizedMismatch 197 = .ok (.if_icmp .eq 54, 3) := dk_159 0 54 (dk_at dksJ7_vectorizedMismatch_8 9 rfl rfl)
theorem dJ7_vectorizedMismatch_200 : decode cJ7_vectorizedMismatch 200 = .ok (.iload 14, 2) := dk_21 14 (dk_at dksJ7_vectorizedMismatch_8 12 rfl rfl)
theorem dJ7_vectorizedMismatch_202 : decode cJ7_vectorizedMismatch 202 = .ok (.iload 15, 2) := dk_21 15 (dk_at dksJ7_vectorizedMismatch_8 14 rfl rfl)
theorem dJ7_vectorizedMismatch_204 : decode cJ7_vectorizedMismatch 204 = .ok (.ixor, 1) := dk_130 (dk_at dksJ7_vectorizedMismatch_8 16 rfl rfl)
theorem dJ7_vectorizedMismatch_205 : decode cJ7_vectorizedMismatch 205 = .ok (.istore 16, 2) := dk_54 16 (dk_at dksJ7_vectorizedMismatch_8 17 rfl rfl)
theorem dJ7_vectorizedMismatch_207 : decode cJ7_vectorizedMismatch 207 = .ok (.getstatic 36, 3) := dk_178 0 36 (dk_at dksJ7_vectorizedMismatch_8 19 rfl rfl)
theorem dJ7_vectorizedMismatch_210 : decode cJ7_vectorizedMismatch 210 = .ok (.ifCond .eq 18, 3) := dk_153 0 18 (dk_at dksJ7_vectorizedMismatch_9 0 rfl rfl)
theorem dJ7_vectorizedMismatch_213 : decode cJ7_vectorizedMismatch 213 = .ok (.iload 16, 2) := dk_21 16 (dk_at dksJ7_vectorizedMismatch_9 3 rfl rfl)
theorem dJ7_vectorizedMismatch_215 : decode cJ7_vectorizedMismatch 215 = .ok (.invokestatic 58, 3) := dk_184 0 58 (dk_at dksJ7_vectorizedMismatch_9 5 rfl rfl)
theorem dJ7_vectorizedMismatch_218 : decode cJ7_vectorizedMismatch 218 = .ok (.getstatic 46, 3) := dk_178 0 46 (dk_at dksJ7_vectorizedMismatch_9 8 rfl rfl)
theorem dJ7_vectorizedMismatch_221 : decode cJ7_vectorizedMismatch 221 = .ok (.iload 7, 2) := dk_21 7 (dk_at dksJ7_vectorizedMismatch_9 11 rfl rfl)
theorem dJ7_vectorizedMismatch_223 : decode cJ7_vectorizedMismatch 223 = .ok (.iadd, 1) := dk_96 (dk_at dksJ7_vectorizedMismatch_9 13 rfl rfl)
theorem dJ7_vectorizedMismatch_224 : decode cJ7_vectorizedMismatch 224 = .ok (.ishr, 1) := dk_122 (dk_at dksJ7_vectorizedMismatch_9 14 rfl rfl)
theorem dJ7_vectorizedMismatch_225 : decode cJ7_vectorizedMismatch 225 = .ok (.goto 15, 3) := dk_167 0 15 (dk_at dksJ7_vectorizedMismatch_9 15 rfl rfl)
theorem dJ7_vectorizedMismatch_228 : decode cJ7_vectorizedMismatch 228 = .ok (.iload 16, 2) := dk_21 16 (dk_at dksJ7_vectorizedMismatch_9 18 rfl rfl)
theorem dJ7_vectorizedMismatch_230 : decode cJ7_vectorizedMismatch 230 = .ok (.invokestatic 11, 3) := dk_184 0 11 (dk_at dksJ7_vectorizedMismatch_9 20 rfl rfl)
theorem dJ7_vectorizedMismatch_233 : decode cJ7_vectorizedMismatch 233 = .ok (.getstatic 46, 3) := dk_178 0 46 (dk_at dksJ7_vectorizedMismatch_10 0 rfl rfl)
theorem dJ7_vectorizedMismatch_236 : decode cJ7_vectorizedMismatch 236 = .ok (.iload 7, 2) := dk_21 7 (dk_at dksJ7_vectorizedMismatch_10 3 rfl rfl)
theorem dJ7_vectorizedMismatch_238 : decode cJ7_vectorizedMismatch 238 = .ok (.iadd, 1) := dk_96 (dk_at dksJ7_vectorizedMismatch_10 5 rfl rfl)
theorem dJ7_vectorizedMismatch_239 : decode cJ7_vectorizedMismatch 239 = .ok (.ishr, 1) := dk_122 (dk_at dksJ7_vectorizedMismatch_10 6 rfl rfl)
theorem dJ7_vectorizedMismatch_240 : decode cJ7_vectorizedMismatch 240 = .ok (.istore 17, 2) := dk_54 17 (dk_at dksJ7_vectorizedMismatch_10 7 rfl rfl)
theorem dJ7_vectorizedMismatch_242 : decode cJ7_vectorizedMismatch 242 = .ok (.iload 9, 2) := dk_21 9 (dk_at dksJ7_vectorizedMismatch_10 9 rfl rfl)
theorem dJ7_vectorizedMismatch_244 : decode cJ7_vectorizedMismatch 244 = .ok (.iload 8, 2) := dk_21 8 (dk_at dksJ7_vectorizedMismatch_10 11 rfl rfl)
theorem dJ7_vectorizedMismatch_246 : decode cJ7_vectorizedMismatch 246 = .ok (.ishl, 1) := dk_120 (dk_at dksJ7_vectorizedMismatch_10 13 rfl rfl)
theorem dJ7_vectorizedMismatch_247 : decode cJ7_vectorizedMismatch 247 = .ok (.iload 17, 2) := dk_21 17 (dk_at dksJ7_vectorizedMismatch_10 14 rfl rfl)
theorem dJ7_vectorizedMismatch_249 : decode cJ7_vectorizedMismatch 249 = .ok (.iadd, 1) := dk_96 (dk_at dksJ7_vectorizedMismatch_10 16 rfl rfl)
theorem dJ7_vectorizedMismatch_250 : decode cJ7_vectorizedMismatch 250 = .ok (.ireturn, 1) := dk_172 (dk_at dksJ7_vectorizedMismatch_10 17 rfl rfl)
theorem dJ7_vectorizedMismatch_251 : decode cJ7_vectorizedMismatch 251 = .ok (.iload 10, 2) := dk_21 10 (dk_at dksJ7_vectorizedMismatch_10 18 rfl rfl)
theorem dJ7_vectorizedMismatch_253 : decode cJ7_vectorizedMismatch 253 = .ok (.iload 11, 2) := dk_21 11 (dk_at dksJ7_vectorizedMismatch_10 20 rfl rfl)
theorem dJ7_vectorizedMismatch_255 : decode cJ7_vectorizedMismatch 255 = .ok (.isub, 1) := dk_100 (dk_at dksJ7_vectorizedMismatch_10 22 rfl rfl)
theorem dJ7_vectorizedMismatch_256 : decode cJ7_vectorizedMismatch 256 = .ok (.istore 10, 2) := dk_54 10 (dk_at dksJ7_vectorizedMismatch_11 0 rfl rfl)
theorem dJ7_vectorizedMismatch_258 : decode cJ7_vectorizedMismatch 258 = .ok (.iload 10, 2) := dk_21 10 (dk_at dksJ7_vectorizedMismatch_11 2 rfl rfl)
theorem dJ7_vectorizedMismatch_260 : decode cJ7_vectorizedMismatch 260 = .ok (.iconst (-1), 1) := dk_2 (dk_at dksJ7_vectorizedMismatch_11 4 rfl rfl)
theorem dJ7_vectorizedMismatch_261 : decode cJ7_vectorizedMismatch 261 = .ok (.ixor, 1) := dk_130 (dk_at dksJ7_vectorizedMismatch_11 5 rfl rfl)
theorem dJ7_vectorizedMismatch_262 : decode cJ7_vectorizedMismatch 262 = .ok (.ireturn, 1) := dk_172 (dk_at dksJ7_vectorizedMismatch_11 6 rfl rfl)
theorem dJ7_vectorizedMismatch_263 : decode cJ7_vectorizedMismatch 263 = .ok (.iload 10, 2) := dk_21 10 (dk_at dksJ7_vectorizedMismatch_11 7 rfl rfl)
theorem dJ7_vectorizedMismatch_265 : decode cJ7_vectorizedMismatch 265 = .ok (.iconst (-1), 1) := dk_2 (dk_at dksJ7_vectorizedMismatch_11 9 rfl rfl)
theorem dJ7_vectorizedMismatch_266 : decode cJ7_vectorizedMismatch 266 = .ok (.ixor, 1) := dk_130 (dk_at dksJ7_vectorizedMismatch_11 10 rfl rfl)
theorem dJ7_vectorizedMismatch_267 : decode cJ7_vectorizedMismatch 267 = .ok (.ireturn, 1) := dk_172 (dk_at dksJ7_vectorizedMismatch_11 11 rfl rfl)
abbrev cJ7_vectorizedHashCode : ByteArray := prog_90_method_4_code
def yJ7_vectorizedHashCode : MethodName := ⟨RJ7, "vectorizedHashCode", "(Ljava/lang/Object;IIII)I"⟩
def dkwJ7_vectorizedHashCode_6 : List UInt8 := [183, 0, 91, 18, 92, 182, 0, 94, 21, 4, 182, 0, 98, 182, 0, 101, 183, 0, 105, 191, 172]
abbrev dktJ7_vectorizedHashCode_6 : List UInt8 := dkwJ7_vectorizedHashCode_6 ++ []
def dkwJ7_vectorizedHashCode_5 : List UInt8 := [167, 0, 44, 29, 42, 192, 0, 82, 27, 28, 184, 0, 84, 167, 0, 31, 187, 0, 87, 89, 187, 0, 89, 89]
abbrev dktJ7_vectorizedHashCode_5 : List UInt8 := dkwJ7_vectorizedHashCode_5 ++ dktJ7_vectorizedHashCode_6
def dkwJ7_vectorizedHashCode_4 : List UInt8 := [29, 42, 192, 0, 60, 27, 28, 184, 0, 75, 167, 0, 57, 29, 42, 192, 0, 77, 27, 28, 184, 0, 79]
abbrev dktJ7_vectorizedHashCode_4 : List UInt8 := dkwJ7_vectorizedHashCode_4 ++ dktJ7_vectorizedHashCode_5
def dkwJ7_vectorizedHashCode_3 : List UInt8 := [192, 0, 60, 27, 28, 184, 0, 66, 167, 0, 83, 29, 42, 192, 0, 69, 27, 28, 184, 0, 71, 167, 0, 70]
abbrev dktJ7_vectorizedHashCode_3 : List UInt8 := dkwJ7_vectorizedHashCode_3 ++ dktJ7_vectorizedHashCode_4
def dkwJ7_vectorizedHashCode_2 : List UInt8 := [29, 42, 192, 0, 60, 27, 28, 184, 0, 62, 167, 0, 103, 42, 193, 0, 60, 153, 0, 16, 29, 42]
abbrev dktJ7_vectorizedHashCode_2 : List UInt8 := dkwJ7_vectorizedHashCode_2 ++ dktJ7_vectorizedHashCode_3
def dkwJ7_vectorizedHashCode_1 : List UInt8 := [170, 0, 0, 0, 0, 127, 0, 0, 0, 4, 0, 0, 0, 10, 0, 0, 0, 42, 0, 0, 0, 55, 0, 0, 0, 127, 0, 0, 0, 127, 0, 0, 0, 88, 0, 0, 0, 101, 0, 0, 0, 114]
abbrev dktJ7_vectorizedHashCode_1 : List UInt8 := dkwJ7_vectorizedHashCode_1 ++ dktJ7_vectorizedHashCode_2
def dkwJ7_vectorizedHashCode_0 : List UInt8 := [21, 4]
abbrev dktJ7_vectorizedHashCode_0 : List UInt8 := dkwJ7_vectorizedHashCode_0 ++ dktJ7_vectorizedHashCode_1
theorem dksJ7_vectorizedHashCode_0 : cJ7_vectorizedHashCode.data.toList.drop 0 = dktJ7_vectorizedHashCode_0 := by decide +kernel
theorem dksJ7_vectorizedHashCode_1 : cJ7_vectorizedHashCode.data.toList.drop 2 = dktJ7_vectorizedHashCode_1 := dk_seg dksJ7_vectorizedHashCode_0 2 rfl rfl
theorem dksJ7_vectorizedHashCode_2 : cJ7_vectorizedHashCode.data.toList.drop 44 = dktJ7_vectorizedHashCode_2 := dk_seg dksJ7_vectorizedHashCode_1 42 rfl rfl
theorem dksJ7_vectorizedHashCode_3 : cJ7_vectorizedHashCode.data.toList.drop 66 = dktJ7_vectorizedHashCode_3 := dk_seg dksJ7_vectorizedHashCode_2 22 rfl rfl
theorem dksJ7_vectorizedHashCode_4 : cJ7_vectorizedHashCode.data.toList.drop 90 = dktJ7_vectorizedHashCode_4 := dk_seg dksJ7_vectorizedHashCode_3 24 rfl rfl
theorem dksJ7_vectorizedHashCode_5 : cJ7_vectorizedHashCode.data.toList.drop 113 = dktJ7_vectorizedHashCode_5 := dk_seg dksJ7_vectorizedHashCode_4 23 rfl rfl
theorem dksJ7_vectorizedHashCode_6 : cJ7_vectorizedHashCode.data.toList.drop 137 = dktJ7_vectorizedHashCode_6 := dk_seg dksJ7_vectorizedHashCode_5 24 rfl rfl
theorem dJ7_vectorizedHashCode_0 : decode cJ7_vectorizedHashCode 0 = .ok (.iload 4, 2) := dk_21 4 (dk_at dksJ7_vectorizedHashCode_0 0 rfl rfl)
theorem dJ7_vectorizedHashCode_2 : decode cJ7_vectorizedHashCode 2 = .ok (.tableswitch 127 4 10 #[42, 55, 127, 127, 88, 101, 114], 42) := by decide +kernel
theorem dJ7_vectorizedHashCode_44 : decode cJ7_vectorizedHashCode 44 = .ok (.iload_n 3, 1) := dk_29 (dk_at dksJ7_vectorizedHashCode_2 0 rfl rfl)
theorem dJ7_vectorizedHashCode_45 : decode cJ7_vectorizedHashCode 45 = .ok (.aload_n 0, 1) := dk_42 (dk_at dksJ7_vectorizedHashCode_2 1 rfl rfl)
theorem dJ7_vectorizedHashCode_46 : decode cJ7_vectorizedHashCode 46 = .ok (.checkcast 60, 3) := dk_192 0 60 (dk_at dksJ7_vectorizedHashCode_2 2 rfl rfl)
theorem dJ7_vectorizedHashCode_49 : decode cJ7_vectorizedHashCode 49 = .ok (.iload_n 1, 1) := dk_27 (dk_at dksJ7_vectorizedHashCode_2 5 rfl rfl)
theorem dJ7_vectorizedHashCode_50 : decode cJ7_vectorizedHashCode 50 = .ok (.iload_n 2, 1) := dk_28 (dk_at dksJ7_vectorizedHashCode_2 6 rfl rfl)
theorem dJ7_vectorizedHashCode_51 : decode cJ7_vectorizedHashCode 51 = .ok (.invokestatic 62, 3) := dk_184 0 62 (dk_at dksJ7_vectorizedHashCode_2 7 rfl rfl)
theorem dJ7_vectorizedHashCode_54 : decode cJ7_vectorizedHashCode 54 = .ok (.goto 103, 3) := dk_167 0 103 (dk_at dksJ7_vectorizedHashCode_2 10 rfl rfl)
theorem dJ7_vectorizedHashCode_57 : decode cJ7_vectorizedHashCode 57 = .ok (.aload_n 0, 1) := dk_42 (dk_at dksJ7_vectorizedHashCode_2 13 rfl rfl)
theorem dJ7_vectorizedHashCode_58 : decode cJ7_vectorizedHashCode 58 = .ok (.instanceof 60, 3) := dk_193 0 60 (dk_at dksJ7_vectorizedHashCode_2 14 rfl rfl)
theorem dJ7_vectorizedHashCode_61 : decode cJ7_vectorizedHashCode 61 = .ok (.ifCond .eq 16, 3) := dk_153 0 16 (dk_at dksJ7_vectorizedHashCode_2 17 rfl rfl)
theorem dJ7_vectorizedHashCode_64 : decode cJ7_vectorizedHashCode 64 = .ok (.iload_n 3, 1) := dk_29 (dk_at dksJ7_vectorizedHashCode_2 20 rfl rfl)
theorem dJ7_vectorizedHashCode_65 : decode cJ7_vectorizedHashCode 65 = .ok (.aload_n 0, 1) := dk_42 (dk_at dksJ7_vectorizedHashCode_2 21 rfl rfl)
theorem dJ7_vectorizedHashCode_66 : decode cJ7_vectorizedHashCode 66 = .ok (.checkcast 60, 3) := dk_192 0 60 (dk_at dksJ7_vectorizedHashCode_3 0 rfl rfl)
theorem dJ7_vectorizedHashCode_69 : decode cJ7_vectorizedHashCode 69 = .ok (.iload_n 1, 1) := dk_27 (dk_at dksJ7_vectorizedHashCode_3 3 rfl rfl)
theorem dJ7_vectorizedHashCode_70 : decode cJ7_vectorizedHashCode 70 = .ok (.iload_n 2, 1) := dk_28 (dk_at dksJ7_vectorizedHashCode_3 4 rfl rfl)
theorem dJ7_vectorizedHashCode_71 : decode cJ7_vectorizedHashCode 71 = .ok (.invokestatic 66, 3) := dk_184 0 66 (dk_at dksJ7_vectorizedHashCode_3 5 rfl rfl)
theorem dJ7_vectorizedHashCode_74 : decode cJ7_vectorizedHashCode 74 = .ok (.goto 83, 3) := dk_167 0 83 (dk_at dksJ7_vectorizedHashCode_3 8 rfl rfl)
theorem dJ7_vectorizedHashCode_77 : decode cJ7_vectorizedHashCode 77 = .ok (.iload_n 3, 1) := dk_29 (dk_at dksJ7_vectorizedHashCode_3 11 rfl rfl)
theorem dJ7_vectorizedHashCode_78 : decode cJ7_vectorizedHashCode 78 = .ok (.aload_n 0, 1) := dk_42 (dk_at dksJ7_vectorizedHashCode_3 12 rfl rfl)
theorem dJ7_vectorizedHashCode_79 : decode cJ7_vectorizedHashCode 79 = .ok (.checkcast 69, 3) := dk_192 0 69 (dk_at dksJ7_vectorizedHashCode_3 13 rfl rfl)
theorem dJ7_vectorizedHashCode_82 : decode cJ7_vectorizedHashCode 82 = .ok (.iload_n 1, 1) := dk_27 (dk_at dksJ7_vectorizedHashCode_3 16 rfl rfl)
theorem dJ7_vectorizedHashCode_83 : decode cJ7_vectorizedHashCode 83 = .ok (.iload_n 2, 1) := dk_28 (dk_at dksJ7_vectorizedHashCode_3 17 rfl rfl)
theorem dJ7_vectorizedHashCode_84 : decode cJ7_vectorizedHashCode 84 = .ok (.invokestatic 71, 3) := dk_184 0 71 (dk_at dksJ7_vectorizedHashCode_3 18 rfl rfl)
theorem dJ7_vectorizedHashCode_87 : decode cJ7_vectorizedHashCode 87 = .ok (.goto 70, 3) := dk_167 0 70 (dk_at dksJ7_vectorizedHashCode_3 21 rfl rfl)
theorem dJ7_vectorizedHashCode_90 : decode cJ7_vectorizedHashCode 90 = .ok (.iload_n 3, 1) := dk_29 (dk_at dksJ7_vectorizedHashCode_4 0 rfl rfl)
theorem dJ7_vectorizedHashCode_91 : decode cJ7_vectorizedHashCode 91 = .ok (.aload_n 0, 1) := dk_42 (dk_at dksJ7_vectorizedHashCode_4 1 rfl rfl)
theorem dJ7_vectorizedHashCode_92 : decode cJ7_vectorizedHashCode 92 = .ok (.checkcast 60, 3) := dk_192 0 60 (dk_at dksJ7_vectorizedHashCode_4 2 rfl rfl)
theorem dJ7_vectorizedHashCode_95 : decode cJ7_vectorizedHashCode 95 = .ok (.iload_n 1, 1) := dk_27 (dk_at dksJ7_vectorizedHashCode_4 5 rfl rfl)
theorem dJ7_vectorizedHashCode_96 : decode cJ7_vectorizedHashCode 96 = .ok (.iload_n 2, 1) := dk_28 (dk_at dksJ7_vectorizedHashCode_4 6 rfl rfl)
theorem dJ7_vectorizedHashCode_97 : decode cJ7_vectorizedHashCode 97 = .ok (.invokestatic 75, 3) := dk_184 0 75 (dk_at dksJ7_vectorizedHashCode_4 7 rfl rfl)
theorem dJ7_vectorizedHashCode_100 : decode cJ7_vectorizedHashCode 100 = .ok (.goto 57, 3) := dk_167 0 57 (dk_at dksJ7_vectorizedHashCode_4 10 rfl rfl)
theorem dJ7_vectorizedHashCode_103 : decode cJ7_vectorizedHashCode 103 = .ok (.iload_n 3, 1) := dk_29 (dk_at dksJ7_vectorizedHashCode_4 13 rfl rfl)
theorem dJ7_vectorizedHashCode_104 : decode cJ7_vectorizedHashCode 104 = .ok (.aload_n 0, 1) := dk_42 (dk_at dksJ7_vectorizedHashCode_4 14 rfl rfl)
theorem dJ7_vectorizedHashCode_105 : decode cJ7_vectorizedHashCode 105 = .ok (.checkcast 77, 3) := dk_192 0 77 (dk_at dksJ7_vectorizedHashCode_4 15 rfl rfl)
theorem dJ7_vectorizedHashCode_108 : decode cJ7_vectorizedHashCode 108 = .ok (.iload_n 1, 1) := dk_27 (dk_at dksJ7_vectorizedHashCode_4 18 rfl rfl)
theorem dJ7_vectorizedHashCode_109 : decode cJ7_vectorizedHashCode 109 = .ok (.iload_n 2, 1) := dk_28 (dk_at dksJ7_vectorizedHashCode_4 19 rfl rfl)
theorem dJ7_vectorizedHashCode_110 : decode cJ7_vectorizedHashCode 110 = .ok (.invokestatic 79, 3) := dk_184 0 79 (dk_at dksJ7_vectorizedHashCode_4 20 rfl rfl)
theorem dJ7_vectorizedHashCode_113 : decode cJ7_vectorizedHashCode 113 = .ok (.goto 44, 3) := dk_167 0 44 (dk_at dksJ7_vectorizedHashCode_5 0 rfl rfl)
theorem dJ7_vectorizedHashCode_116 : decode cJ7_vectorizedHashCode 116 = .ok (.iload_n 3, 1) := dk_29 (dk_at dksJ7_vectorizedHashCode_5 3 rfl rfl)
theorem dJ7_vectorizedHashCode_117 : decode cJ7_vectorizedHashCode 117 = .ok (.aload_n 0, 1) := dk_42 (dk_at dksJ7_vectorizedHashCode_5 4 rfl rfl)
theorem dJ7_vectorizedHashCode_118 : decode cJ7_vectorizedHashCode 118 = .ok (.checkcast 82, 3) := dk_192 0 82 (dk_at dksJ7_vectorizedHashCode_5 5 rfl rfl)
theorem dJ7_vectorizedHashCode_121 : decode cJ7_vectorizedHashCode 121 = .ok (.iload_n 1, 1) := dk_27 (dk_at dksJ7_vectorizedHashCode_5 8 rfl rfl)
theorem dJ7_vectorizedHashCode_122 : decode cJ7_vectorizedHashCode 122 = .ok (.iload_n 2, 1) := dk_28 (dk_at dksJ7_vectorizedHashCode_5 9 rfl rfl)
theorem dJ7_vectorizedHashCode_123 : decode cJ7_vectorizedHashCode 123 = .ok (.invokestatic 84, 3) := dk_184 0 84 (dk_at dksJ7_vectorizedHashCode_5 10 rfl rfl)
theorem dJ7_vectorizedHashCode_126 : decode cJ7_vectorizedHashCode 126 = .ok (.goto 31, 3) := dk_167 0 31 (dk_at dksJ7_vectorizedHashCode_5 13 rfl rfl)
theorem dJ7_vectorizedHashCode_129 : decode cJ7_vectorizedHashCode 129 = .ok (.new 87, 3) := dk_187 0 87 (dk_at dksJ7_vectorizedHashCode_5 16 rfl rfl)
theorem dJ7_vectorizedHashCode_132 : decode cJ7_vectorizedHashCode 132 = .ok (.dup, 1) := dk_89 (dk_at dksJ7_vectorizedHashCode_5 19 rfl rfl)
theorem dJ7_vectorizedHashCode_133 : decode cJ7_vectorizedHashCode 133 = .ok (.new 89, 3) := dk_187 0 89 (dk_at dksJ7_vectorizedHashCode_5 20 rfl rfl)
theorem dJ7_vectorizedHashCode_136 : decode cJ7_vectorizedHashCode 136 = .ok (.dup, 1) := dk_89 (dk_at dksJ7_vectorizedHashCode_5 23 rfl rfl)
theorem dJ7_vectorizedHashCode_137 : decode cJ7_vectorizedHashCode 137 = .ok (.invokespecial 91, 3) := dk_183 0 91 (dk_at dksJ7_vectorizedHashCode_6 0 rfl rfl)
theorem dJ7_vectorizedHashCode_140 : decode cJ7_vectorizedHashCode 140 = .ok (.ldc 92, 2) := dk_18 92 (dk_at dksJ7_vectorizedHashCode_6 3 rfl rfl)
theorem dJ7_vectorizedHashCode_142 : decode cJ7_vectorizedHashCode 142 = .ok (.invokevirtual 94, 3) := dk_182 0 94 (dk_at dksJ7_vectorizedHashCode_6 5 rfl rfl)
theorem dJ7_vectorizedHashCode_145 : decode cJ7_vectorizedHashCode 145 = .ok (.iload 4, 2) := dk_21 4 (dk_at dksJ7_vectorizedHashCode_6 8 rfl rfl)
theorem dJ7_vectorizedHashCode_147 : decode cJ7_vectorizedHashCode 147 = .ok (.invokevirtual 98, 3) := dk_182 0 98 (dk_at dksJ7_vectorizedHashCode_6 10 rfl rfl)
theorem dJ7_vectorizedHashCode_150 : decode cJ7_vectorizedHashCode 150 = .ok (.invokevirtual 101, 3) := dk_182 0 101 (dk_at dksJ7_vectorizedHashCode_6 13 rfl rfl)
theorem dJ7_vectorizedHashCode_153 : decode cJ7_vectorizedHashCode 153 = .ok (.invokespecial 105, 3) := dk_183 0 105 (dk_at dksJ7_vectorizedHashCode_6 16 rfl rfl)
theorem dJ7_vectorizedHashCode_156 : decode cJ7_vectorizedHashCode 156 = .ok (.athrow, 1) := dk_191 (dk_at dksJ7_vectorizedHashCode_6 19 rfl rfl)
theorem dJ7_vectorizedHashCode_157 : decode cJ7_vectorizedHashCode 157 = .ok (.ireturn, 1) := dk_172 (dk_at dksJ7_vectorizedHashCode_6 20 rfl rfl)
abbrev cJ7_signedHashCode : ByteArray := prog_90_method_5_code
def yJ7_signedHashCode : MethodName := ⟨RJ7, "signedHashCode", "(I[BII)I"⟩
def dkwJ7_signedHashCode_1 : List UInt8 := [17, 0, 255, 126, 96, 59, 132, 5, 1, 167, 255, 232, 26, 172]
abbrev dktJ7_signedHashCode_1 : List UInt8 := dkwJ7_signedHashCode_1 ++ []
def dkwJ7_signedHashCode_0 : List UInt8 := [28, 29, 96, 54, 4, 28, 54, 5, 21, 5, 21, 4, 162, 0, 23, 16, 31, 26, 104, 43, 21, 5, 51]
abbrev dktJ7_signedHashCode_0 : List UInt8 := dkwJ7_signedHashCode_0 ++ dktJ7_signedHashCode_1
theorem dksJ7_signedHashCode_0 : cJ7_signedHashCode.data.toList.drop 0 = dktJ7_signedHashCode_0 := by decide +kernel
theorem dksJ7_signedHashCode_1 : cJ7_signedHashCode.data.toList.drop 23 = dktJ7_signedHashCode_1 := dk_seg dksJ7_signedHashCode_0 23 rfl rfl
theorem dJ7_signedHashCode_0 : decode cJ7_signedHashCode 0 = .ok (.iload_n 2, 1) := dk_28 (dk_at dksJ7_signedHashCode_0 0 rfl rfl)
theorem dJ7_signedHashCode_1 : decode cJ7_signedHashCode 1 = .ok (.iload_n 3, 1) := dk_29 (dk_at dksJ7_signedHashCode_0 1 rfl rfl)
theorem dJ7_signedHashCode_2 : decode cJ7_signedHashCode 2 = .ok (.iadd, 1) := dk_96 (dk_at dksJ7_signedHashCode_0 2 rfl rfl)
theorem dJ7_signedHashCode_3 : decode cJ7_signedHashCode 3 = .ok (.istore 4, 2) := dk_54 4 (dk_at dksJ7_signedHashCode_0 3 rfl rfl)
theorem dJ7_signedHashCode_5 : decode cJ7_signedHashCode 5 = .ok (.iload_n 2, 1) := dk_28 (dk_at dksJ7_signedHashCode_0 5 rfl rfl)
theorem dJ7_signedHashCode_6 : decode cJ7_signedHashCode 6 = .ok (.istore 5, 2) := dk_54 5 (dk_at dksJ7_signedHashCode_0 6 rfl rfl)
theorem dJ7_signedHashCode_8 : decode cJ7_signedHashCode 8 = .ok (.iload 5, 2) := dk_21 5 (dk_at dksJ7_signedHashCode_0 8 rfl rfl)
theorem dJ7_signedHashCode_10 : decode cJ7_signedHashCode 10 = .ok (.iload 4, 2) := dk_21 4 (dk_at dksJ7_signedHashCode_0 10 rfl rfl)
theorem dJ7_signedHashCode_12 : decode cJ7_signedHashCode 12 = .ok (.if_icmp .ge 23, 3) := dk_162 0 23 (dk_at dksJ7_signedHashCode_0 12 rfl rfl)
theorem dJ7_signedHashCode_15 : decode cJ7_signedHashCode 15 = .ok (.bipush 31, 2) := dk_16 31 (dk_at dksJ7_signedHashCode_0 15 rfl rfl)
theorem dJ7_signedHashCode_17 : decode cJ7_signedHashCode 17 = .ok (.iload_n 0, 1) := dk_26 (dk_at dksJ7_signedHashCode_0 17 rfl rfl)
theorem dJ7_signedHashCode_18 : decode cJ7_signedHashCode 18 = .ok (.imul, 1) := dk_104 (dk_at dksJ7_signedHashCode_0 18 rfl rfl)
theorem dJ7_signedHashCode_19 : decode cJ7_signedHashCode 19 = .ok (.aload_n 1, 1) := dk_43 (dk_at dksJ7_signedHashCode_0 19 rfl rfl)
theorem dJ7_signedHashCode_20 : decode cJ7_signedHashCode 20 = .ok (.iload 5, 2) := dk_21 5 (dk_at dksJ7_signedHashCode_0 20 rfl rfl)
theorem dJ7_signedHashCode_22 : decode cJ7_signedHashCode 22 = .ok (.baload, 1) := dk_51 (dk_at dksJ7_signedHashCode_0 22 rfl rfl)
theorem dJ7_signedHashCode_23 : decode cJ7_signedHashCode 23 = .ok (.sipush 255, 3) := dk_17 0 255 (dk_at dksJ7_signedHashCode_1 0 rfl rfl)
theorem dJ7_signedHashCode_26 : decode cJ7_signedHashCode 26 = .ok (.iand, 1) := dk_126 (dk_at dksJ7_signedHashCode_1 3 rfl rfl)
theorem dJ7_signedHashCode_27 : decode cJ7_signedHashCode 27 = .ok (.iadd, 1) := dk_96 (dk_at dksJ7_signedHashCode_1 4 rfl rfl)
theorem dJ7_signedHashCode_28 : decode cJ7_signedHashCode 28 = .ok (.istore_n 0, 1) := dk_59 (dk_at dksJ7_signedHashCode_1 5 rfl rfl)
theorem dJ7_signedHashCode_29 : decode cJ7_signedHashCode 29 = .ok (.iinc 5 1, 3) := dk_132 5 1 (dk_at dksJ7_signedHashCode_1 6 rfl rfl)
theorem dJ7_signedHashCode_32 : decode cJ7_signedHashCode 32 = .ok (.goto (-24), 3) := dk_167 255 232 (dk_at dksJ7_signedHashCode_1 9 rfl rfl)
theorem dJ7_signedHashCode_35 : decode cJ7_signedHashCode 35 = .ok (.iload_n 0, 1) := dk_26 (dk_at dksJ7_signedHashCode_1 12 rfl rfl)
theorem dJ7_signedHashCode_36 : decode cJ7_signedHashCode 36 = .ok (.ireturn, 1) := dk_172 (dk_at dksJ7_signedHashCode_1 13 rfl rfl)
abbrev cJ7_utf16hashCode : ByteArray := prog_90_method_10_code
def yJ7_utf16hashCode : MethodName := ⟨RJ7, "utf16hashCode", "(I[BII)I"⟩
def dkwJ7_utf16hashCode_1 : List UInt8 := [21, 5, 185, 0, 110, 3, 0, 96, 59, 132, 5, 1, 167, 255, 229, 26, 172]
abbrev dktJ7_utf16hashCode_1 : List UInt8 := dkwJ7_utf16hashCode_1 ++ []
def dkwJ7_utf16hashCode_0 : List UInt8 := [28, 29, 96, 54, 4, 28, 54, 5, 21, 5, 21, 4, 162, 0, 26, 16, 31, 26, 104, 178, 0, 106, 43]
abbrev dktJ7_utf16hashCode_0 : List UInt8 := dkwJ7_utf16hashCode_0 ++ dktJ7_utf16hashCode_1
theorem dksJ7_utf16hashCode_0 : cJ7_utf16hashCode.data.toList.drop 0 = dktJ7_utf16hashCode_0 := by decide +kernel
theorem dksJ7_utf16hashCode_1 : cJ7_utf16hashCode.data.toList.drop 23 = dktJ7_utf16hashCode_1 := dk_seg dksJ7_utf16hashCode_0 23 rfl rfl
theorem dJ7_utf16hashCode_0 : decode cJ7_utf16hashCode 0 = .ok (.iload_n 2, 1) := dk_28 (dk_at dksJ7_utf16hashCode_0 0 rfl rfl)
theorem dJ7_utf16hashCode_1 : decode cJ7_utf16hashCode 1 = .ok (.iload_n 3, 1) := dk_29 (dk_at dksJ7_utf16hashCode_0 1 rfl rfl)
theorem dJ7_utf16hashCode_2 : decode cJ7_utf16hashCode 2 = .ok (.iadd, 1) := dk_96 (dk_at dksJ7_utf16hashCode_0 2 rfl rfl)
theorem dJ7_utf16hashCode_3 : decode cJ7_utf16hashCode 3 = .ok (.istore 4, 2) := dk_54 4 (dk_at dksJ7_utf16hashCode_0 3 rfl rfl)
theorem dJ7_utf16hashCode_5 : decode cJ7_utf16hashCode 5 = .ok (.iload_n 2, 1) := dk_28 (dk_at dksJ7_utf16hashCode_0 5 rfl rfl)
theorem dJ7_utf16hashCode_6 : decode cJ7_utf16hashCode 6 = .ok (.istore 5, 2) := dk_54 5 (dk_at dksJ7_utf16hashCode_0 6 rfl rfl)
theorem dJ7_utf16hashCode_8 : decode cJ7_utf16hashCode 8 = .ok (.iload 5, 2) := dk_21 5 (dk_at dksJ7_utf16hashCode_0 8 rfl rfl)
theorem dJ7_utf16hashCode_10 : decode cJ7_utf16hashCode 10 = .ok (.iload 4, 2) := dk_21 4 (dk_at dksJ7_utf16hashCode_0 10 rfl rfl)
theorem dJ7_utf16hashCode_12 : decode cJ7_utf16hashCode 12 = .ok (.if_icmp .ge 26, 3) := dk_162 0 26 (dk_at dksJ7_utf16hashCode_0 12 rfl rfl)
theorem dJ7_utf16hashCode_15 : decode cJ7_utf16hashCode 15 = .ok (.bipush 31, 2) := dk_16 31 (dk_at dksJ7_utf16hashCode_0 15 rfl rfl)
theorem dJ7_utf16hashCode_17 : decode cJ7_utf16hashCode 17 = .ok (.iload_n 0, 1) := dk_26 (dk_at dksJ7_utf16hashCode_0 17 rfl rfl)
theorem dJ7_utf16hashCode_18 : decode cJ7_utf16hashCode 18 = .ok (.imul, 1) := dk_104 (dk_at dksJ7_utf16hashCode_0 18 rfl rfl)
theorem dJ7_utf16hashCode_19 : decode cJ7_utf16hashCode 19 = .ok (.getstatic 106, 3) := dk_178 0 106 (dk_at dksJ7_utf16hashCode_0 19 rfl rfl)
theorem dJ7_utf16hashCode_22 : decode cJ7_utf16hashCode 22 = .ok (.aload_n 1, 1) := dk_43 (dk_at dksJ7_utf16hashCode_0 22 rfl rfl)
theorem dJ7_utf16hashCode_23 : decode cJ7_utf16hashCode 23 = .ok (.iload 5, 2) := dk_21 5 (dk_at dksJ7_utf16hashCode_1 0 rfl rfl)
theorem dJ7_utf16hashCode_25 : decode cJ7_utf16hashCode 25 = .ok (.invokeinterface 110 3, 5) := by decide +kernel
theorem dJ7_utf16hashCode_30 : decode cJ7_utf16hashCode 30 = .ok (.iadd, 1) := dk_96 (dk_at dksJ7_utf16hashCode_1 7 rfl rfl)
theorem dJ7_utf16hashCode_31 : decode cJ7_utf16hashCode 31 = .ok (.istore_n 0, 1) := dk_59 (dk_at dksJ7_utf16hashCode_1 8 rfl rfl)
theorem dJ7_utf16hashCode_32 : decode cJ7_utf16hashCode 32 = .ok (.iinc 5 1, 3) := dk_132 5 1 (dk_at dksJ7_utf16hashCode_1 9 rfl rfl)
theorem dJ7_utf16hashCode_35 : decode cJ7_utf16hashCode 35 = .ok (.goto (-27), 3) := dk_167 255 229 (dk_at dksJ7_utf16hashCode_1 12 rfl rfl)
theorem dJ7_utf16hashCode_38 : decode cJ7_utf16hashCode 38 = .ok (.iload_n 0, 1) := dk_26 (dk_at dksJ7_utf16hashCode_1 15 rfl rfl)
theorem dJ7_utf16hashCode_39 : decode cJ7_utf16hashCode 39 = .ok (.ireturn, 1) := dk_172 (dk_at dksJ7_utf16hashCode_1 16 rfl rfl)
abbrev cJ7_hashCode : ByteArray := prog_90_method_7_code
def yJ7_hashCode : MethodName := ⟨RJ7, "hashCode", "(I[CII)I"⟩
def dkwJ7_hashCode_1 : List UInt8 := [59, 132, 5, 1, 167, 255, 236, 26, 172]
abbrev dktJ7_hashCode_1 : List UInt8 := dkwJ7_hashCode_1 ++ []
def dkwJ7_hashCode_0 : List UInt8 := [28, 29, 96, 54, 4, 28, 54, 5, 21, 5, 21, 4, 162, 0, 19, 16, 31, 26, 104, 43, 21, 5, 52, 96]
abbrev dktJ7_hashCode_0 : List UInt8 := dkwJ7_hashCode_0 ++ dktJ7_hashCode_1
theorem dksJ7_hashCode_0 : cJ7_hashCode.data.toList.drop 0 = dktJ7_hashCode_0 := by decide +kernel
theorem dksJ7_hashCode_1 : cJ7_hashCode.data.toList.drop 24 = dktJ7_hashCode_1 := dk_seg dksJ7_hashCode_0 24 rfl rfl
theorem dJ7_hashCode_0 : decode cJ7_hashCode 0 = .ok (.iload_n 2, 1) := dk_28 (dk_at dksJ7_hashCode_0 0 rfl rfl)
theorem dJ7_hashCode_1 : decode cJ7_hashCode 1 = .ok (.iload_n 3, 1) := dk_29 (dk_at dksJ7_hashCode_0 1 rfl rfl)
theorem dJ7_hashCode_2 : decode cJ7_hashCode 2 = .ok (.iadd, 1) := dk_96 (dk_at dksJ7_hashCode_0 2 rfl rfl)
theorem dJ7_hashCode_3 : decode cJ7_hashCode 3 = .ok (.istore 4, 2) := dk_54 4 (dk_at dksJ7_hashCode_0 3 rfl rfl)
theorem dJ7_hashCode_5 : decode cJ7_hashCode 5 = .ok (.iload_n 2, 1) := dk_28 (dk_at dksJ7_hashCode_0 5 rfl rfl)
theorem dJ7_hashCode_6 : decode cJ7_hashCode 6 = .ok (.istore 5, 2) := dk_54 5 (dk_at dksJ7_hashCode_0 6 rfl rfl)
theorem dJ7_hashCode_8 : decode cJ7_hashCode 8 = .ok (.iload 5, 2) := dk_21 5 (dk_at dksJ7_hashCode_0 8 rfl rfl)
theorem dJ7_hashCode_10 : decode cJ7_hashCode 10 = .ok (.iload 4, 2) := dk_21 4 (dk_at dksJ7_hashCode_0 10 rfl rfl)
theorem dJ7_hashCode_12 : decode cJ7_hashCode 12 = .ok (.if_icmp .ge 19, 3) := dk_162 0 19 (dk_at dksJ7_hashCode_0 12 rfl rfl)
theorem dJ7_hashCode_15 : decode cJ7_hashCode 15 = .ok (.bipush 31, 2) := dk_16 31 (dk_at dksJ7_hashCode_0 15 rfl rfl)
theorem dJ7_hashCode_17 : decode cJ7_hashCode 17 = .ok (.iload_n 0, 1) := dk_26 (dk_at dksJ7_hashCode_0 17 rfl rfl)
theorem dJ7_hashCode_18 : decode cJ7_hashCode 18 = .ok (.imul, 1) := dk_104 (dk_at dksJ7_hashCode_0 18 rfl rfl)
theorem dJ7_hashCode_19 : decode cJ7_hashCode 19 = .ok (.aload_n 1, 1) := dk_43 (dk_at dksJ7_hashCode_0 19 rfl rfl)
theorem dJ7_hashCode_20 : decode cJ7_hashCode 20 = .ok (.iload 5, 2) := dk_21 5 (dk_at dksJ7_hashCode_0 20 rfl rfl)
theorem dJ7_hashCode_22 : decode cJ7_hashCode 22 = .ok (.caload, 1) := dk_52 (dk_at dksJ7_hashCode_0 22 rfl rfl)
theorem dJ7_hashCode_23 : decode cJ7_hashCode 23 = .ok (.iadd, 1) := dk_96 (dk_at dksJ7_hashCode_0 23 rfl rfl)
theorem dJ7_hashCode_24 : decode cJ7_hashCode 24 = .ok (.istore_n 0, 1) := dk_59 (dk_at dksJ7_hashCode_1 0 rfl rfl)
theorem dJ7_hashCode_25 : decode cJ7_hashCode 25 = .ok (.iinc 5 1, 3) := dk_132 5 1 (dk_at dksJ7_hashCode_1 1 rfl rfl)
theorem dJ7_hashCode_28 : decode cJ7_hashCode 28 = .ok (.goto (-20), 3) := dk_167 255 236 (dk_at dksJ7_hashCode_1 4 rfl rfl)
theorem dJ7_hashCode_31 : decode cJ7_hashCode 31 = .ok (.iload_n 0, 1) := dk_26 (dk_at dksJ7_hashCode_1 7 rfl rfl)
theorem dJ7_hashCode_32 : decode cJ7_hashCode 32 = .ok (.ireturn, 1) := dk_172 (dk_at dksJ7_hashCode_1 8 rfl rfl)
abbrev cJ7_hashCode_2 : ByteArray := prog_90_method_6_code
def yJ7_hashCode_2 : MethodName := ⟨RJ7, "hashCode", "(I[BII)I"⟩
def dkwJ7_hashCode_2_1 : List UInt8 := [59, 132, 5, 1, 167, 255, 236, 26, 172]
abbrev dktJ7_hashCode_2_1 : List UInt8 := dkwJ7_hashCode_2_1 ++ []
def dkwJ7_hashCode_2_0 : List UInt8 := [28, 29, 96, 54, 4, 28, 54, 5, 21, 5, 21, 4, 162, 0, 19, 16, 31, 26, 104, 43, 21, 5, 51, 96]
abbrev dktJ7_hashCode_2_0 : List UInt8 := dkwJ7_hashCode_2_0 ++ dktJ7_hashCode_2_1
theorem dksJ7_hashCode_2_0 : cJ7_hashCode_2.data.toList.drop 0 = dktJ7_hashCode_2_0 := by decide +kernel
theorem dksJ7_hashCode_2_1 : cJ7_hashCode_2.data.toList.drop 24 = dktJ7_hashCode_2_1 := dk_seg dksJ7_hashCode_2_0 24 rfl rfl
theorem dJ7_hashCode_2_0 : decode cJ7_hashCode_2 0 = .ok (.iload_n 2, 1) := dk_28 (dk_at dksJ7_hashCode_2_0 0 rfl rfl)
theorem dJ7_hashCode_2_1 : decode cJ7_hashCode_2 1 = .ok (.iload_n 3, 1) := dk_29 (dk_at dksJ7_hashCode_2_0 1 rfl rfl)
theorem dJ7_hashCode_2_2 : decode cJ7_hashCode_2 2 = .ok (.iadd, 1) := dk_96 (dk_at dksJ7_hashCode_2_0 2 rfl rfl)
theorem dJ7_hashCode_2_3 : decode cJ7_hashCode_2 3 = .ok (.istore 4, 2) := dk_54 4 (dk_at dksJ7_hashCode_2_0 3 rfl rfl)
theorem dJ7_hashCode_2_5 : decode cJ7_hashCode_2 5 = .ok (.iload_n 2, 1) := dk_28 (dk_at dksJ7_hashCode_2_0 5 rfl rfl)
theorem dJ7_hashCode_2_6 : decode cJ7_hashCode_2 6 = .ok (.istore 5, 2) := dk_54 5 (dk_at dksJ7_hashCode_2_0 6 rfl rfl)
theorem dJ7_hashCode_2_8 : decode cJ7_hashCode_2 8 = .ok (.iload 5, 2) := dk_21 5 (dk_at dksJ7_hashCode_2_0 8 rfl rfl)
theorem dJ7_hashCode_2_10 : decode cJ7_hashCode_2 10 = .ok (.iload 4, 2) := dk_21 4 (dk_at dksJ7_hashCode_2_0 10 rfl rfl)
theorem dJ7_hashCode_2_12 : decode cJ7_hashCode_2 12 = .ok (.if_icmp .ge 19, 3) := dk_162 0 19 (dk_at dksJ7_hashCode_2_0 12 rfl rfl)
theorem dJ7_hashCode_2_15 : decode cJ7_hashCode_2 15 = .ok (.bipush 31, 2) := dk_16 31 (dk_at dksJ7_hashCode_2_0 15 rfl rfl)
theorem dJ7_hashCode_2_17 : decode cJ7_hashCode_2 17 = .ok (.iload_n 0, 1) := dk_26 (dk_at dksJ7_hashCode_2_0 17 rfl rfl)
theorem dJ7_hashCode_2_18 : decode cJ7_hashCode_2 18 = .ok (.imul, 1) := dk_104 (dk_at dksJ7_hashCode_2_0 18 rfl rfl)
theorem dJ7_hashCode_2_19 : decode cJ7_hashCode_2 19 = .ok (.aload_n 1, 1) := dk_43 (dk_at dksJ7_hashCode_2_0 19 rfl rfl)
theorem dJ7_hashCode_2_20 : decode cJ7_hashCode_2 20 = .ok (.iload 5, 2) := dk_21 5 (dk_at dksJ7_hashCode_2_0 20 rfl rfl)
theorem dJ7_hashCode_2_22 : decode cJ7_hashCode_2 22 = .ok (.baload, 1) := dk_51 (dk_at dksJ7_hashCode_2_0 22 rfl rfl)
theorem dJ7_hashCode_2_23 : decode cJ7_hashCode_2 23 = .ok (.iadd, 1) := dk_96 (dk_at dksJ7_hashCode_2_0 23 rfl rfl)
theorem dJ7_hashCode_2_24 : decode cJ7_hashCode_2 24 = .ok (.istore_n 0, 1) := dk_59 (dk_at dksJ7_hashCode_2_1 0 rfl rfl)
theorem dJ7_hashCode_2_25 : decode cJ7_hashCode_2 25 = .ok (.iinc 5 1, 3) := dk_132 5 1 (dk_at dksJ7_hashCode_2_1 1 rfl rfl)
theorem dJ7_hashCode_2_28 : decode cJ7_hashCode_2 28 = .ok (.goto (-20), 3) := dk_167 255 236 (dk_at dksJ7_hashCode_2_1 4 rfl rfl)
theorem dJ7_hashCode_2_31 : decode cJ7_hashCode_2 31 = .ok (.iload_n 0, 1) := dk_26 (dk_at dksJ7_hashCode_2_1 7 rfl rfl)
theorem dJ7_hashCode_2_32 : decode cJ7_hashCode_2 32 = .ok (.ireturn, 1) := dk_172 (dk_at dksJ7_hashCode_2_1 8 rfl rfl)
abbrev cJ7_hashCode_3 : ByteArray := prog_90_method_8_code
def yJ7_hashCode_3 : MethodName := ⟨RJ7, "hashCode", "(I[SII)I"⟩
def dkwJ7_hashCode_3_1 : List UInt8 := [59, 132, 5, 1, 167, 255, 236, 26, 172]
abbrev dktJ7_hashCode_3_1 : List UInt8 := dkwJ7_hashCode_3_1 ++ []
def dkwJ7_hashCode_3_0 : List UInt8 := [28, 29, 96, 54, 4, 28, 54, 5, 21, 5, 21, 4, 162, 0, 19, 16, 31, 26, 104, 43, 21, 5, 53, 96]
abbrev dktJ7_hashCode_3_0 : List UInt8 := dkwJ7_hashCode_3_0 ++ dktJ7_hashCode_3_1
theorem dksJ7_hashCode_3_0 : cJ7_hashCode_3.data.toList.drop 0 = dktJ7_hashCode_3_0 := by decide +kernel
theorem dksJ7_hashCode_3_1 : cJ7_hashCode_3.data.toList.drop 24 = dktJ7_hashCode_3_1 := dk_seg dksJ7_hashCode_3_0 24 rfl rfl
theorem dJ7_hashCode_3_0 : decode cJ7_hashCode_3 0 = .ok (.iload_n 2, 1) := dk_28 (dk_at dksJ7_hashCode_3_0 0 rfl rfl)
theorem dJ7_hashCode_3_1 : decode cJ7_hashCode_3 1 = .ok (.iload_n 3, 1) := dk_29 (dk_at dksJ7_hashCode_3_0 1 rfl rfl)
theorem dJ7_hashCode_3_2 : decode cJ7_hashCode_3 2 = .ok (.iadd, 1) := dk_96 (dk_at dksJ7_hashCode_3_0 2 rfl rfl)
theorem dJ7_hashCode_3_3 : decode cJ7_hashCode_3 3 = .ok (.istore 4, 2) := dk_54 4 (dk_at dksJ7_hashCode_3_0 3 rfl rfl)
theorem dJ7_hashCode_3_5 : decode cJ7_hashCode_3 5 = .ok (.iload_n 2, 1) := dk_28 (dk_at dksJ7_hashCode_3_0 5 rfl rfl)
theorem dJ7_hashCode_3_6 : decode cJ7_hashCode_3 6 = .ok (.istore 5, 2) := dk_54 5 (dk_at dksJ7_hashCode_3_0 6 rfl rfl)
theorem dJ7_hashCode_3_8 : decode cJ7_hashCode_3 8 = .ok (.iload 5, 2) := dk_21 5 (dk_at dksJ7_hashCode_3_0 8 rfl rfl)
theorem dJ7_hashCode_3_10 : decode cJ7_hashCode_3 10 = .ok (.iload 4, 2) := dk_21 4 (dk_at dksJ7_hashCode_3_0 10 rfl rfl)
theorem dJ7_hashCode_3_12 : decode cJ7_hashCode_3 12 = .ok (.if_icmp .ge 19, 3) := dk_162 0 19 (dk_at dksJ7_hashCode_3_0 12 rfl rfl)
theorem dJ7_hashCode_3_15 : decode cJ7_hashCode_3 15 = .ok (.bipush 31, 2) := dk_16 31 (dk_at dksJ7_hashCode_3_0 15 rfl rfl)
theorem dJ7_hashCode_3_17 : decode cJ7_hashCode_3 17 = .ok (.iload_n 0, 1) := dk_26 (dk_at dksJ7_hashCode_3_0 17 rfl rfl)
theorem dJ7_hashCode_3_18 : decode cJ7_hashCode_3 18 = .ok (.imul, 1) := dk_104 (dk_at dksJ7_hashCode_3_0 18 rfl rfl)
theorem dJ7_hashCode_3_19 : decode cJ7_hashCode_3 19 = .ok (.aload_n 1, 1) := dk_43 (dk_at dksJ7_hashCode_3_0 19 rfl rfl)
theorem dJ7_hashCode_3_20 : decode cJ7_hashCode_3 20 = .ok (.iload 5, 2) := dk_21 5 (dk_at dksJ7_hashCode_3_0 20 rfl rfl)
theorem dJ7_hashCode_3_22 : decode cJ7_hashCode_3 22 = .ok (.saload, 1) := dk_53 (dk_at dksJ7_hashCode_3_0 22 rfl rfl)
theorem dJ7_hashCode_3_23 : decode cJ7_hashCode_3 23 = .ok (.iadd, 1) := dk_96 (dk_at dksJ7_hashCode_3_0 23 rfl rfl)
theorem dJ7_hashCode_3_24 : decode cJ7_hashCode_3 24 = .ok (.istore_n 0, 1) := dk_59 (dk_at dksJ7_hashCode_3_1 0 rfl rfl)
theorem dJ7_hashCode_3_25 : decode cJ7_hashCode_3 25 = .ok (.iinc 5 1, 3) := dk_132 5 1 (dk_at dksJ7_hashCode_3_1 1 rfl rfl)
theorem dJ7_hashCode_3_28 : decode cJ7_hashCode_3 28 = .ok (.goto (-20), 3) := dk_167 255 236 (dk_at dksJ7_hashCode_3_1 4 rfl rfl)
theorem dJ7_hashCode_3_31 : decode cJ7_hashCode_3 31 = .ok (.iload_n 0, 1) := dk_26 (dk_at dksJ7_hashCode_3_1 7 rfl rfl)
theorem dJ7_hashCode_3_32 : decode cJ7_hashCode_3 32 = .ok (.ireturn, 1) := dk_172 (dk_at dksJ7_hashCode_3_1 8 rfl rfl)
abbrev cJ7_hashCode_4 : ByteArray := prog_90_method_9_code
def yJ7_hashCode_4 : MethodName := ⟨RJ7, "hashCode", "(I[III)I"⟩
def dkwJ7_hashCode_4_1 : List UInt8 := [59, 132, 5, 1, 167, 255, 236, 26, 172]
abbrev dktJ7_hashCode_4_1 : List UInt8 := dkwJ7_hashCode_4_1 ++ []
def dkwJ7_hashCode_4_0 : List UInt8 := [28, 29, 96, 54, 4, 28, 54, 5, 21, 5, 21, 4, 162, 0, 19, 16, 31, 26, 104, 43, 21, 5, 46, 96]
abbrev dktJ7_hashCode_4_0 : List UInt8 := dkwJ7_hashCode_4_0 ++ dktJ7_hashCode_4_1
theorem dksJ7_hashCode_4_0 : cJ7_hashCode_4.data.toList.drop 0 = dktJ7_hashCode_4_0 := by decide +kernel
theorem dksJ7_hashCode_4_1 : cJ7_hashCode_4.data.toList.drop 24 = dktJ7_hashCode_4_1 := dk_seg dksJ7_hashCode_4_0 24 rfl rfl
theorem dJ7_hashCode_4_0 : decode cJ7_hashCode_4 0 = .ok (.iload_n 2, 1) := dk_28 (dk_at dksJ7_hashCode_4_0 0 rfl rfl)
theorem dJ7_hashCode_4_1 : decode cJ7_hashCode_4 1 = .ok (.iload_n 3, 1) := dk_29 (dk_at dksJ7_hashCode_4_0 1 rfl rfl)
theorem dJ7_hashCode_4_2 : decode cJ7_hashCode_4 2 = .ok (.iadd, 1) := dk_96 (dk_at dksJ7_hashCode_4_0 2 rfl rfl)
theorem dJ7_hashCode_4_3 : decode cJ7_hashCode_4 3 = .ok (.istore 4, 2) := dk_54 4 (dk_at dksJ7_hashCode_4_0 3 rfl rfl)
theorem dJ7_hashCode_4_5 : decode cJ7_hashCode_4 5 = .ok (.iload_n 2, 1) := dk_28 (dk_at dksJ7_hashCode_4_0 5 rfl rfl)
theorem dJ7_hashCode_4_6 : decode cJ7_hashCode_4 6 = .ok (.istore 5, 2) := dk_54 5 (dk_at dksJ7_hashCode_4_0 6 rfl rfl)
theorem dJ7_hashCode_4_8 : decode cJ7_hashCode_4 8 = .ok (.iload 5, 2) := dk_21 5 (dk_at dksJ7_hashCode_4_0 8 rfl rfl)
theorem dJ7_hashCode_4_10 : decode cJ7_hashCode_4 10 = .ok (.iload 4, 2) := dk_21 4 (dk_at dksJ7_hashCode_4_0 10 rfl rfl)
theorem dJ7_hashCode_4_12 : decode cJ7_hashCode_4 12 = .ok (.if_icmp .ge 19, 3) := dk_162 0 19 (dk_at dksJ7_hashCode_4_0 12 rfl rfl)
theorem dJ7_hashCode_4_15 : decode cJ7_hashCode_4 15 = .ok (.bipush 31, 2) := dk_16 31 (dk_at dksJ7_hashCode_4_0 15 rfl rfl)
theorem dJ7_hashCode_4_17 : decode cJ7_hashCode_4 17 = .ok (.iload_n 0, 1) := dk_26 (dk_at dksJ7_hashCode_4_0 17 rfl rfl)
theorem dJ7_hashCode_4_18 : decode cJ7_hashCode_4 18 = .ok (.imul, 1) := dk_104 (dk_at dksJ7_hashCode_4_0 18 rfl rfl)
theorem dJ7_hashCode_4_19 : decode cJ7_hashCode_4 19 = .ok (.aload_n 1, 1) := dk_43 (dk_at dksJ7_hashCode_4_0 19 rfl rfl)
theorem dJ7_hashCode_4_20 : decode cJ7_hashCode_4 20 = .ok (.iload 5, 2) := dk_21 5 (dk_at dksJ7_hashCode_4_0 20 rfl rfl)
theorem dJ7_hashCode_4_22 : decode cJ7_hashCode_4 22 = .ok (.iaload, 1) := dk_46 (dk_at dksJ7_hashCode_4_0 22 rfl rfl)
theorem dJ7_hashCode_4_23 : decode cJ7_hashCode_4 23 = .ok (.iadd, 1) := dk_96 (dk_at dksJ7_hashCode_4_0 23 rfl rfl)
theorem dJ7_hashCode_4_24 : decode cJ7_hashCode_4 24 = .ok (.istore_n 0, 1) := dk_59 (dk_at dksJ7_hashCode_4_1 0 rfl rfl)
theorem dJ7_hashCode_4_25 : decode cJ7_hashCode_4 25 = .ok (.iinc 5 1, 3) := dk_132 5 1 (dk_at dksJ7_hashCode_4_1 1 rfl rfl)
theorem dJ7_hashCode_4_28 : decode cJ7_hashCode_4 28 = .ok (.goto (-20), 3) := dk_167 255 236 (dk_at dksJ7_hashCode_4_1 4 rfl rfl)
theorem dJ7_hashCode_4_31 : decode cJ7_hashCode_4 31 = .ok (.iload_n 0, 1) := dk_26 (dk_at dksJ7_hashCode_4_1 7 rfl rfl)
theorem dJ7_hashCode_4_32 : decode cJ7_hashCode_4 32 = .ok (.ireturn, 1) := dk_172 (dk_at dksJ7_hashCode_4_1 8 rfl rfl)
abbrev cJ8_max : ByteArray := prog_32_method_65_code
def yJ8_max : MethodName := ⟨RJ8, "max", "(II)I"⟩
def dkwJ8_max_0 : List UInt8 := [26, 27, 161, 0, 7, 26, 167, 0, 4, 27, 172]
abbrev dktJ8_max_0 : List UInt8 := dkwJ8_max_0 ++ []
theorem dksJ8_max_0 : cJ8_max.data.toList.drop 0 = dktJ8_max_0 := by decide +kernel
theorem dJ8_max_0 : decode cJ8_max 0 = .ok (.iload_n 0, 1) := dk_26 (dk_at dksJ8_max_0 0 rfl rfl)
theorem dJ8_max_1 : decode cJ8_max 1 = .ok (.iload_n 1, 1) := dk_27 (dk_at dksJ8_max_0 1 rfl rfl)
theorem dJ8_max_2 : decode cJ8_max 2 = .ok (.if_icmp .lt 7, 3) := dk_161 0 7 (dk_at dksJ8_max_0 2 rfl rfl)
theorem dJ8_max_5 : decode cJ8_max 5 = .ok (.iload_n 0, 1) := dk_26 (dk_at dksJ8_max_0 5 rfl rfl)
theorem dJ8_max_6 : decode cJ8_max 6 = .ok (.goto 4, 3) := dk_167 0 4 (dk_at dksJ8_max_0 6 rfl rfl)
theorem dJ8_max_9 : decode cJ8_max 9 = .ok (.iload_n 1, 1) := dk_27 (dk_at dksJ8_max_0 9 rfl rfl)
theorem dJ8_max_10 : decode cJ8_max 10 = .ok (.ireturn, 1) := dk_172 (dk_at dksJ8_max_0 10 rfl rfl)
abbrev cJ8_min : ByteArray := prog_32_method_69_code
def yJ8_min : MethodName := ⟨RJ8, "min", "(II)I"⟩
def dkwJ8_min_0 : List UInt8 := [26, 27, 163, 0, 7, 26, 167, 0, 4, 27, 172]
abbrev dktJ8_min_0 : List UInt8 := dkwJ8_min_0 ++ []
theorem dksJ8_min_0 : cJ8_min.data.toList.drop 0 = dktJ8_min_0 := by decide +kernel
theorem dJ8_min_0 : decode cJ8_min 0 = .ok (.iload_n 0, 1) := dk_26 (dk_at dksJ8_min_0 0 rfl rfl)
theorem dJ8_min_1 : decode cJ8_min 1 = .ok (.iload_n 1, 1) := dk_27 (dk_at dksJ8_min_0 1 rfl rfl)
theorem dJ8_min_2 : decode cJ8_min 2 = .ok (.if_icmp .gt 7, 3) := dk_163 0 7 (dk_at dksJ8_min_0 2 rfl rfl)
theorem dJ8_min_5 : decode cJ8_min 5 = .ok (.iload_n 0, 1) := dk_26 (dk_at dksJ8_min_0 5 rfl rfl)
theorem dJ8_min_6 : decode cJ8_min 6 = .ok (.goto 4, 3) := dk_167 0 4 (dk_at dksJ8_min_0 6 rfl rfl)
theorem dJ8_min_9 : decode cJ8_min 9 = .ok (.iload_n 1, 1) := dk_27 (dk_at dksJ8_min_0 9 rfl rfl)
theorem dJ8_min_10 : decode cJ8_min 10 = .ok (.ireturn, 1) := dk_172 (dk_at dksJ8_min_0 10 rfl rfl)
abbrev cJ9_copyOf : ByteArray := prog_59_method_119_code
def yJ9_copyOf : MethodName := ⟨RJ9, "copyOf", "([Ljava/lang/Object;I)[Ljava/lang/Object;"⟩
def dkwJ9_copyOf_0 : List UInt8 := [42, 27, 42, 182, 0, 86, 184, 1, 44, 176]
abbrev dktJ9_copyOf_0 : List UInt8 := dkwJ9_copyOf_0 ++ []
theorem dksJ9_copyOf_0 : cJ9_copyOf.data.toList.drop 0 = dktJ9_copyOf_0 := by decide +kernel
theorem dJ9_copyOf_0 : decode cJ9_copyOf 0 = .ok (.aload_n 0, 1) := dk_42 (dk_at dksJ9_copyOf_0 0 rfl rfl)
theorem dJ9_copyOf_1 : decode cJ9_copyOf 1 = .ok (.iload_n 1, 1) := dk_27 (dk_at dksJ9_copyOf_0 1 rfl rfl)
theorem dJ9_copyOf_2 : decode cJ9_copyOf 2 = .ok (.aload_n 0, 1) := dk_42 (dk_at dksJ9_copyOf_0 2 rfl rfl)
theorem dJ9_copyOf_3 : decode cJ9_copyOf 3 = .ok (.invokevirtual 86, 3) := dk_182 0 86 (dk_at dksJ9_copyOf_0 3 rfl rfl)
theorem dJ9_copyOf_6 : decode cJ9_copyOf 6 = .ok (.invokestatic 300, 3) := dk_184 1 44 (dk_at dksJ9_copyOf_0 6 rfl rfl)
theorem dJ9_copyOf_9 : decode cJ9_copyOf 9 = .ok (.areturn, 1) := dk_176 (dk_at dksJ9_copyOf_0 9 rfl rfl)
abbrev cJ9_copyOf_2 : ByteArray := prog_59_method_120_code
def yJ9_copyOf_2 : MethodName := ⟨RJ9, "copyOf", "([Ljava/lang/Object;ILjava/lang/Class;)[Ljava/lang/Object;"⟩
def dkwJ9_copyOf_2_1 : List UInt8 := [78, 42, 3, 45, 3, 42, 190, 27, 184, 1, 48, 184, 0, 150, 45, 176]
abbrev dktJ9_copyOf_2_1 : List UInt8 := dkwJ9_copyOf_2_1 ++ []
def dkwJ9_copyOf_2_0 : List UInt8 := [44, 18, 110, 166, 0, 10, 27, 189, 0, 2, 167, 0, 14, 44, 182, 0, 90, 27, 184, 0, 95, 192, 0, 110]
abbrev dktJ9_copyOf_2_0 : List UInt8 := dkwJ9_copyOf_2_0 ++ dktJ9_copyOf_2_1
theorem dksJ9_copyOf_2_0 : cJ9_copyOf_2.data.toList.drop 0 = dktJ9_copyOf_2_0 := by decide +kernel
theorem dksJ9_copyOf_2_1 : cJ9_copyOf_2.data.toList.drop 24 = dktJ9_copyOf_2_1 := dk_seg dksJ9_copyOf_2_0 24 rfl rfl
theorem dJ9_copyOf_2_0 : decode cJ9_copyOf_2 0 = .ok (.aload_n 2, 1) := dk_44 (dk_at dksJ9_copyOf_2_0 0 rfl rfl)
theorem dJ9_copyOf_2_1 : decode cJ9_copyOf_2 1 = .ok (.ldc 110, 2) := dk_18 110 (dk_at dksJ9_copyOf_2_0 1 rfl rfl)
theorem dJ9_copyOf_2_3 : decode cJ9_copyOf_2 3 = .ok (.if_acmp .ne 10, 3) := dk_166 0 10 (dk_at dksJ9_copyOf_2_0 3 rfl rfl)
theorem dJ9_copyOf_2_6 : decode cJ9_copyOf_2 6 = .ok (.iload_n 1, 1) := dk_27 (dk_at dksJ9_copyOf_2_0 6 rfl rfl)
theorem dJ9_copyOf_2_7 : decode cJ9_copyOf_2 7 = .ok (.anewarray 2, 3) := dk_189 0 2 (dk_at dksJ9_copyOf_2_0 7 rfl rfl)
theorem dJ9_copyOf_2_10 : decode cJ9_copyOf_2 10 = .ok (.goto 14, 3) := dk_167 0 14 (dk_at dksJ9_copyOf_2_0 10 rfl rfl)
theorem dJ9_copyOf_2_13 : decode cJ9_copyOf_2 13 = .ok (.aload_n 2, 1) := dk_44 (dk_at dksJ9_copyOf_2_0 13 rfl rfl)
theorem dJ9_copyOf_2_14 : decode cJ9_copyOf_2 14 = .ok (.invokevirtual 90, 3) := dk_182 0 90 (dk_at dksJ9_copyOf_2_0 14 rfl rfl)
theorem dJ9_copyOf_2_17 : decode cJ9_copyOf_2 17 = .ok (.iload_n 1, 1) := dk_27 (dk_at dksJ9_copyOf_2_0 17 rfl rfl)
theorem dJ9_copyOf_2_18 : decode cJ9_copyOf_2 18 = .ok (.invokestatic 95, 3) := dk_184 0 95 (dk_at dksJ9_copyOf_2_0 18 rfl rfl)
theorem dJ9_copyOf_2_21 : decode cJ9_copyOf_2 21 = .ok (.checkcast 110, 3) := dk_192 0 110 (dk_at dksJ9_copyOf_2_0 21 rfl rfl)
theorem dJ9_copyOf_2_24 : decode cJ9_copyOf_2 24 = .ok (.astore_n 3, 1) := dk_78 (dk_at dksJ9_copyOf_2_1 0 rfl rfl)
theorem dJ9_copyOf_2_25 : decode cJ9_copyOf_2 25 = .ok (.aload_n 0, 1) := dk_42 (dk_at dksJ9_copyOf_2_1 1 rfl rfl)
theorem dJ9_copyOf_2_26 : decode cJ9_copyOf_2 26 = .ok (.iconst 0, 1) := dk_3 (dk_at dksJ9_copyOf_2_1 2 rfl rfl)
theorem dJ9_copyOf_2_27 : decode cJ9_copyOf_2 27 = .ok (.aload_n 3, 1) := dk_45 (dk_at dksJ9_copyOf_2_1 3 rfl rfl)
theorem dJ9_copyOf_2_28 : decode cJ9_copyOf_2 28 = .ok (.iconst 0, 1) := dk_3 (dk_at dksJ9_copyOf_2_1 4 rfl rfl)
theorem dJ9_copyOf_2_29 : decode cJ9_copyOf_2 29 = .ok (.aload_n 0, 1) := dk_42 (dk_at dksJ9_copyOf_2_1 5 rfl rfl)
theorem dJ9_copyOf_2_30 : decode cJ9_copyOf_2 30 = .ok (.arraylength, 1) := dk_190 (dk_at dksJ9_copyOf_2_1 6 rfl rfl)
theorem dJ9_copyOf_2_31 : decode cJ9_copyOf_2 31 = .ok (.iload_n 1, 1) := dk_27 (dk_at dksJ9_copyOf_2_1 7 rfl rfl)
theorem dJ9_copyOf_2_32 : decode cJ9_copyOf_2 32 = .ok (.invokestatic 304, 3) := dk_184 1 48 (dk_at dksJ9_copyOf_2_1 8 rfl rfl)
theorem dJ9_copyOf_2_35 : decode cJ9_copyOf_2 35 = .ok (.invokestatic 150, 3) := dk_184 0 150 (dk_at dksJ9_copyOf_2_1 11 rfl rfl)
theorem dJ9_copyOf_2_38 : decode cJ9_copyOf_2 38 = .ok (.aload_n 3, 1) := dk_45 (dk_at dksJ9_copyOf_2_1 14 rfl rfl)
theorem dJ9_copyOf_2_39 : decode cJ9_copyOf_2 39 = .ok (.areturn, 1) := dk_176 (dk_at dksJ9_copyOf_2_1 15 rfl rfl)
abbrev cJ9_copyOf_3 : ByteArray := prog_59_method_121_code
def yJ9_copyOf_3 : MethodName := ⟨RJ9, "copyOf", "([BI)[B"⟩
def dkwJ9_copyOf_3_1 : List UInt8 := [27, 184, 1, 48, 184, 0, 150, 44, 176]
abbrev dktJ9_copyOf_3_1 : List UInt8 := dkwJ9_copyOf_3_1 ++ []
def dkwJ9_copyOf_3_0 : List UInt8 := [27, 42, 190, 160, 0, 11, 42, 182, 1, 54, 192, 1, 55, 176, 27, 188, 8, 77, 42, 3, 44, 3, 42, 190]
abbrev dktJ9_copyOf_3_0 : List UInt8 := dkwJ9_copyOf_3_0 ++ dktJ9_copyOf_3_1
theorem dksJ9_copyOf_3_0 : cJ9_copyOf_3.data.toList.drop 0 = dktJ9_copyOf_3_0 := by decide +kernel
theorem dksJ9_copyOf_3_1 : cJ9_copyOf_3.data.toList.drop 24 = dktJ9_copyOf_3_1 := dk_seg dksJ9_copyOf_3_0 24 rfl rfl
theorem dJ9_copyOf_3_0 : decode cJ9_copyOf_3 0 = .ok (.iload_n 1, 1) := dk_27 (dk_at dksJ9_copyOf_3_0 0 rfl rfl)
theorem dJ9_copyOf_3_1 : decode cJ9_copyOf_3 1 = .ok (.aload_n 0, 1) := dk_42 (dk_at dksJ9_copyOf_3_0 1 rfl rfl)
theorem dJ9_copyOf_3_2 : decode cJ9_copyOf_3 2 = .ok (.arraylength, 1) := dk_190 (dk_at dksJ9_copyOf_3_0 2 rfl rfl)
theorem dJ9_copyOf_3_3 : decode cJ9_copyOf_3 3 = .ok (.if_icmp .ne 11, 3) := dk_160 0 11 (dk_at dksJ9_copyOf_3_0 3 rfl rfl)
theorem dJ9_copyOf_3_6 : decode cJ9_copyOf_3 6 = .ok (.aload_n 0, 1) := dk_42 (dk_at dksJ9_copyOf_3_0 6 rfl rfl)
theorem dJ9_copyOf_3_7 : decode cJ9_copyOf_3 7 = .ok (.invokevirtual 310, 3) := dk_182 1 54 (dk_at dksJ9_copyOf_3_0 7 rfl rfl)
theorem dJ9_copyOf_3_10 : decode cJ9_copyOf_3 10 = .ok (.checkcast 311, 3) := dk_192 1 55 (dk_at dksJ9_copyOf_3_0 10 rfl rfl)
theorem dJ9_copyOf_3_13 : decode cJ9_copyOf_3 13 = .ok (.areturn, 1) := dk_176 (dk_at dksJ9_copyOf_3_0 13 rfl rfl)
theorem dJ9_copyOf_3_14 : decode cJ9_copyOf_3 14 = .ok (.iload_n 1, 1) := dk_27 (dk_at dksJ9_copyOf_3_0 14 rfl rfl)
theorem dJ9_copyOf_3_15 : decode cJ9_copyOf_3 15 = .ok (.newarray .byte, 2) := dk_188_8 (dk_at dksJ9_copyOf_3_0 15 rfl rfl)
theorem dJ9_copyOf_3_17 : decode cJ9_copyOf_3 17 = .ok (.astore_n 2, 1) := dk_77 (dk_at dksJ9_copyOf_3_0 17 rfl rfl)
theorem dJ9_copyOf_3_18 : decode cJ9_copyOf_3 18 = .ok (.aload_n 0, 1) := dk_42 (dk_at dksJ9_copyOf_3_0 18 rfl rfl)
theorem dJ9_copyOf_3_19 : decode cJ9_copyOf_3 19 = .ok (.iconst 0, 1) := dk_3 (dk_at dksJ9_copyOf_3_0 19 rfl rfl)
theorem dJ9_copyOf_3_20 : decode cJ9_copyOf_3 20 = .ok (.aload_n 2, 1) := dk_44 (dk_at dksJ9_copyOf_3_0 20 rfl rfl)
theorem dJ9_copyOf_3_21 : decode cJ9_copyOf_3 21 = .ok (.iconst 0, 1) := dk_3 (dk_at dksJ9_copyOf_3_0 21 rfl rfl)
theorem dJ9_copyOf_3_22 : decode cJ9_copyOf_3 22 = .ok (.aload_n 0, 1) := dk_42 (dk_at dksJ9_copyOf_3_0 22 rfl rfl)
theorem dJ9_copyOf_3_23 : decode cJ9_copyOf_3 23 = .ok (.arraylength, 1) := dk_190 (dk_at dksJ9_copyOf_3_0 23 rfl rfl)
theorem dJ9_copyOf_3_24 : decode cJ9_copyOf_3 24 = .ok (.iload_n 1, 1) := dk_27 (dk_at dksJ9_copyOf_3_1 0 rfl rfl)
theorem dJ9_copyOf_3_25 : decode cJ9_copyOf_3 25 = .ok (.invokestatic 304, 3) := dk_184 1 48 (dk_at dksJ9_copyOf_3_1 1 rfl rfl)
theorem dJ9_copyOf_3_28 : decode cJ9_copyOf_3 28 = .ok (.invokestatic 150, 3) := dk_184 0 150 (dk_at dksJ9_copyOf_3_1 4 rfl rfl)
theorem dJ9_copyOf_3_31 : decode cJ9_copyOf_3 31 = .ok (.aload_n 2, 1) := dk_44 (dk_at dksJ9_copyOf_3_1 7 rfl rfl)
theorem dJ9_copyOf_3_32 : decode cJ9_copyOf_3 32 = .ok (.areturn, 1) := dk_176 (dk_at dksJ9_copyOf_3_1 8 rfl rfl)
abbrev cJ9_copyOfRange : ByteArray := prog_59_method_132_code
def yJ9_copyOfRange : MethodName := ⟨RJ9, "copyOfRange", "([BII)[B"⟩
def dkwJ9_copyOfRange_1 : List UInt8 := [176]
abbrev dktJ9_copyOfRange_1 : List UInt8 := dkwJ9_copyOfRange_1 ++ []
def dkwJ9_copyOfRange_0 : List UInt8 := [27, 154, 0, 9, 28, 42, 190, 159, 0, 10, 42, 27, 28, 184, 1, 83, 176, 42, 182, 1, 54, 192, 1, 55]
abbrev dktJ9_copyOfRange_0 : List UInt8 := dkwJ9_copyOfRange_0 ++ dktJ9_copyOfRange_1
theorem dksJ9_copyOfRange_0 : cJ9_copyOfRange.data.toList.drop 0 = dktJ9_copyOfRange_0 := by decide +kernel
theorem dksJ9_copyOfRange_1 : cJ9_copyOfRange.data.toList.drop 24 = dktJ9_copyOfRange_1 := dk_seg dksJ9_copyOfRange_0 24 rfl rfl
theorem dJ9_copyOfRange_0 : decode cJ9_copyOfRange 0 = .ok (.iload_n 1, 1) := dk_27 (dk_at dksJ9_copyOfRange_0 0 rfl rfl)
theorem dJ9_copyOfRange_1 : decode cJ9_copyOfRange 1 = .ok (.ifCond .ne 9, 3) := dk_154 0 9 (dk_at dksJ9_copyOfRange_0 1 rfl rfl)
theorem dJ9_copyOfRange_4 : decode cJ9_copyOfRange 4 = .ok (.iload_n 2, 1) := dk_28 (dk_at dksJ9_copyOfRange_0 4 rfl rfl)
theorem dJ9_copyOfRange_5 : decode cJ9_copyOfRange 5 = .ok (.aload_n 0, 1) := dk_42 (dk_at dksJ9_copyOfRange_0 5 rfl rfl)
theorem dJ9_copyOfRange_6 : decode cJ9_copyOfRange 6 = .ok (.arraylength, 1) := dk_190 (dk_at dksJ9_copyOfRange_0 6 rfl rfl)
theorem dJ9_copyOfRange_7 : decode cJ9_copyOfRange 7 = .ok (.if_icmp .eq 10, 3) := dk_159 0 10 (dk_at dksJ9_copyOfRange_0 7 rfl rfl)
theorem dJ9_copyOfRange_10 : decode cJ9_copyOfRange 10 = .ok (.aload_n 0, 1) := dk_42 (dk_at dksJ9_copyOfRange_0 10 rfl rfl)
theorem dJ9_copyOfRange_11 : decode cJ9_copyOfRange 11 = .ok (.iload_n 1, 1) := dk_27 (dk_at dksJ9_copyOfRange_0 11 rfl rfl)
theorem dJ9_copyOfRange_12 : decode cJ9_copyOfRange 12 = .ok (.iload_n 2, 1) := dk_28 (dk_at dksJ9_copyOfRange_0 12 rfl rfl)
theorem dJ9_copyOfRange_13 : decode cJ9_copyOfRange 13 = .ok (.invokestatic 339, 3) := dk_184 1 83 (dk_at dksJ9_copyOfRange_0 13 rfl rfl)
theorem dJ9_copyOfRange_16 : decode cJ9_copyOfRange 16 = .ok (.areturn, 1) := dk_176 (dk_at dksJ9_copyOfRange_0 16 rfl rfl)
theorem dJ9_copyOfRange_17 : decode cJ9_copyOfRange 17 = .ok (.aload_n 0, 1) := dk_42 (dk_at dksJ9_copyOfRange_0 17 rfl rfl)
theorem dJ9_copyOfRange_18 : decode cJ9_copyOfRange 18 = .ok (.invokevirtual 310, 3) := dk_182 1 54 (dk_at dksJ9_copyOfRange_0 18 rfl rfl)
theorem dJ9_copyOfRange_21 : decode cJ9_copyOfRange 21 = .ok (.checkcast 311, 3) := dk_192 1 55 (dk_at dksJ9_copyOfRange_0 21 rfl rfl)
theorem dJ9_copyOfRange_24 : decode cJ9_copyOfRange 24 = .ok (.areturn, 1) := dk_176 (dk_at dksJ9_copyOfRange_1 0 rfl rfl)
abbrev cJ9_copyOfRangeByte : ByteArray := prog_59_method_133_code
def yJ9_copyOfRangeByte : MethodName := ⟨RJ9, "copyOfRangeByte", "([BII)[B"⟩
def dkwJ9_copyOfRangeByte_1 : List UInt8 := [184, 1, 48, 184, 0, 150, 25, 4, 176]
abbrev dktJ9_copyOfRangeByte_1 : List UInt8 := dkwJ9_copyOfRangeByte_1 ++ []
def dkwJ9_copyOfRangeByte_0 : List UInt8 := [27, 28, 184, 1, 87, 28, 27, 100, 62, 29, 188, 8, 58, 4, 42, 27, 25, 4, 3, 42, 190, 27, 100, 29]
abbrev dktJ9_copyOfRangeByte_0 : List UInt8 := dkwJ9_copyOfRangeByte_0 ++ dktJ9_copyOfRangeByte_1
theorem dksJ9_copyOfRangeByte_0 : cJ9_copyOfRangeByte.data.toList.drop 0 = dktJ9_copyOfRangeByte_0 := by decide +kernel
theorem dksJ9_copyOfRangeByte_1 : cJ9_copyOfRangeByte.data.toList.drop 24 = dktJ9_copyOfRangeByte_1 := dk_seg dksJ9_copyOfRangeByte_0 24 rfl rfl
theorem dJ9_copyOfRangeByte_0 : decode cJ9_copyOfRangeByte 0 = .ok (.iload_n 1, 1) := dk_27 (dk_at dksJ9_copyOfRangeByte_0 0 rfl rfl)
theorem dJ9_copyOfRangeByte_1 : decode cJ9_copyOfRangeByte 1 = .ok (.iload_n 2, 1) := dk_28 (dk_at dksJ9_copyOfRangeByte_0 1 rfl rfl)
theorem dJ9_copyOfRangeByte_2 : decode cJ9_copyOfRangeByte 2 = .ok (.invokestatic 343, 3) := dk_184 1 87 (dk_at dksJ9_copyOfRangeByte_0 2 rfl rfl)
theorem dJ9_copyOfRangeByte_5 : decode cJ9_copyOfRangeByte 5 = .ok (.iload_n 2, 1) := dk_28 (dk_at dksJ9_copyOfRangeByte_0 5 rfl rfl)
theorem dJ9_copyOfRangeByte_6 : decode cJ9_copyOfRangeByte 6 = .ok (.iload_n 1, 1) := dk_27 (dk_at dksJ9_copyOfRangeByte_0 6 rfl rfl)
theorem dJ9_copyOfRangeByte_7 : decode cJ9_copyOfRangeByte 7 = .ok (.isub, 1) := dk_100 (dk_at dksJ9_copyOfRangeByte_0 7 rfl rfl)
theorem dJ9_copyOfRangeByte_8 : decode cJ9_copyOfRangeByte 8 = .ok (.istore_n 3, 1) := dk_62 (dk_at dksJ9_copyOfRangeByte_0 8 rfl rfl)
theorem dJ9_copyOfRangeByte_9 : decode cJ9_copyOfRangeByte 9 = .ok (.iload_n 3, 1) := dk_29 (dk_at dksJ9_copyOfRangeByte_0 9 rfl rfl)
theorem dJ9_copyOfRangeByte_10 : decode cJ9_copyOfRangeByte 10 = .ok (.newarray .byte, 2) := dk_188_8 (dk_at dksJ9_copyOfRangeByte_0 10 rfl rfl)
theorem dJ9_copyOfRangeByte_12 : decode cJ9_copyOfRangeByte 12 = .ok (.astore 4, 2) := dk_58 4 (dk_at dksJ9_copyOfRangeByte_0 12 rfl rfl)
theorem dJ9_copyOfRangeByte_14 : decode cJ9_copyOfRangeByte 14 = .ok (.aload_n 0, 1) := dk_42 (dk_at dksJ9_copyOfRangeByte_0 14 rfl rfl)
theorem dJ9_copyOfRangeByte_15 : decode cJ9_copyOfRangeByte 15 = .ok (.iload_n 1, 1) := dk_27 (dk_at dksJ9_copyOfRangeByte_0 15 rfl rfl)
theorem dJ9_copyOfRangeByte_16 : decode cJ9_copyOfRangeByte 16 = .ok (.aload 4, 2) := dk_25 4 (dk_at dksJ9_copyOfRangeByte_0 16 rfl rfl)
theorem dJ9_copyOfRangeByte_18 : decode cJ9_copyOfRangeByte 18 = .ok (.iconst 0, 1) := dk_3 (dk_at dksJ9_copyOfRangeByte_0 18 rfl rfl)
theorem dJ9_copyOfRangeByte_19 : decode cJ9_copyOfRangeByte 19 = .ok (.aload_n 0, 1) := dk_42 (dk_at dksJ9_copyOfRangeByte_0 19 rfl rfl)
theorem dJ9_copyOfRangeByte_20 : decode cJ9_copyOfRangeByte 20 = .ok (.arraylength, 1) := dk_190 (dk_at dksJ9_copyOfRangeByte_0 20 rfl rfl)
theorem dJ9_copyOfRangeByte_21 : decode cJ9_copyOfRangeByte 21 = .ok (.iload_n 1, 1) := dk_27 (dk_at dksJ9_copyOfRangeByte_0 21 rfl rfl)
theorem dJ9_copyOfRangeByte_22 : decode cJ9_copyOfRangeByte 22 = .ok (.isub, 1) := dk_100 (dk_at dksJ9_copyOfRangeByte_0 22 rfl rfl)
theorem dJ9_copyOfRangeByte_23 : decode cJ9_copyOfRangeByte 23 = .ok (.iload_n 3, 1) := dk_29 (dk_at dksJ9_copyOfRangeByte_0 23 rfl rfl)
theorem dJ9_copyOfRangeByte_24 : decode cJ9_copyOfRangeByte 24 = .ok (.invokestatic 304, 3) := dk_184 1 48 (dk_at dksJ9_copyOfRangeByte_1 0 rfl rfl)
theorem dJ9_copyOfRangeByte_27 : decode cJ9_copyOfRangeByte 27 = .ok (.invokestatic 150, 3) := dk_184 0 150 (dk_at dksJ9_copyOfRangeByte_1 3 rfl rfl)
theorem dJ9_copyOfRangeByte_30 : decode cJ9_copyOfRangeByte 30 = .ok (.aload 4, 2) := dk_25 4 (dk_at dksJ9_copyOfRangeByte_1 6 rfl rfl)
theorem dJ9_copyOfRangeByte_32 : decode cJ9_copyOfRangeByte 32 = .ok (.areturn, 1) := dk_176 (dk_at dksJ9_copyOfRangeByte_1 8 rfl rfl)
abbrev cJ9_checkLength : ByteArray := prog_59_method_131_code
def yJ9_checkLength : MethodName := ⟨RJ9, "checkLength", "(II)V"⟩
def dkwJ9_checkLength_1 : List UInt8 := [182, 0, 50, 27, 182, 0, 54, 182, 0, 61, 183, 0, 65, 191, 177]
abbrev dktJ9_checkLength_1 : List UInt8 := dkwJ9_checkLength_1 ++ []
def dkwJ9_checkLength_0 : List UInt8 := [27, 26, 162, 0, 35, 187, 0, 43, 89, 187, 0, 45, 89, 183, 0, 47, 26, 182, 0, 54, 19, 1, 81]
abbrev dktJ9_checkLength_0 : List UInt8 := dkwJ9_checkLength_0 ++ dktJ9_checkLength_1
theorem dksJ9_checkLength_0 : cJ9_checkLength.data.toList.drop 0 = dktJ9_checkLength_0 := by decide +kernel
theorem dksJ9_checkLength_1 : cJ9_checkLength.data.toList.drop 23 = dktJ9_checkLength_1 := dk_seg dksJ9_checkLength_0 23 rfl rfl
theorem dJ9_checkLength_0 : decode cJ9_checkLength 0 = .ok (.iload_n 1, 1) := dk_27 (dk_at dksJ9_checkLength_0 0 rfl rfl)
theorem dJ9_checkLength_1 : decode cJ9_checkLength 1 = .ok (.iload_n 0, 1) := dk_26 (dk_at dksJ9_checkLength_0 1 rfl rfl)
theorem dJ9_checkLength_2 : decode cJ9_checkLength 2 = .ok (.if_icmp .ge 35, 3) := dk_162 0 35 (dk_at dksJ9_checkLength_0 2 rfl rfl)
theorem dJ9_checkLength_5 : decode cJ9_checkLength 5 = .ok (.new 43, 3) := dk_187 0 43 (dk_at dksJ9_checkLength_0 5 rfl rfl)
theorem dJ9_checkLength_8 : decode cJ9_checkLength 8 = .ok (.dup, 1) := dk_89 (dk_at dksJ9_checkLength_0 8 rfl rfl)
theorem dJ9_checkLength_9 : decode cJ9_checkLength 9 = .ok (.new 45, 3) := dk_187 0 45 (dk_at dksJ9_checkLength_0 9 rfl rfl)
theorem dJ9_checkLength_12 : decode cJ9_checkLength 12 = .ok (.dup, 1) := dk_89 (dk_at dksJ9_checkLength_0 12 rfl rfl)
theorem dJ9_checkLength_13 : decode cJ9_checkLength 13 = .ok (.invokespecial 47, 3) := dk_183 0 47 (dk_at dksJ9_checkLength_0 13 rfl rfl)
theorem dJ9_checkLength_16 : decode cJ9_checkLength 16 = .ok (.iload_n 0, 1) := dk_26 (dk_at dksJ9_checkLength_0 16 rfl rfl)
theorem dJ9_checkLength_17 : decode cJ9_checkLength 17 = .ok (.invokevirtual 54, 3) := dk_182 0 54 (dk_at dksJ9_checkLength_0 17 rfl rfl)
theorem dJ9_checkLength_20 : decode cJ9_checkLength 20 = .ok (.ldc_w 337, 3) := dk_19 1 81 (dk_at dksJ9_checkLength_0 20 rfl rfl)
theorem dJ9_checkLength_23 : decode cJ9_checkLength 23 = .ok (.invokevirtual 50, 3) := dk_182 0 50 (dk_at dksJ9_checkLength_1 0 rfl rfl)
theorem dJ9_checkLength_26 : decode cJ9_checkLength 26 = .ok (.iload_n 1, 1) := dk_27 (dk_at dksJ9_checkLength_1 3 rfl rfl)
theorem dJ9_checkLength_27 : decode cJ9_checkLength 27 = .ok (.invokevirtual 54, 3) := dk_182 0 54 (dk_at dksJ9_checkLength_1 4 rfl rfl)
theorem dJ9_checkLength_30 : decode cJ9_checkLength 30 = .ok (.invokevirtual 61, 3) := dk_182 0 61 (dk_at dksJ9_checkLength_1 7 rfl rfl)
theorem dJ9_checkLength_33 : decode cJ9_checkLength 33 = .ok (.invokespecial 65, 3) := dk_183 0 65 (dk_at dksJ9_checkLength_1 10 rfl rfl)
theorem dJ9_checkLength_36 : decode cJ9_checkLength 36 = .ok (.athrow, 1) := dk_191 (dk_at dksJ9_checkLength_1 13 rfl rfl)
theorem dJ9_checkLength_37 : decode cJ9_checkLength 37 = .ok (.return_, 1) := dk_177 (dk_at dksJ9_checkLength_1 14 rfl rfl)
abbrev cJ9_copyOfRange_2 : ByteArray := prog_59_method_130_code
def yJ9_copyOfRange_2 : MethodName := ⟨RJ9, "copyOfRange", "([Ljava/lang/Object;IILjava/lang/Class;)[Ljava/lang/Object;"⟩
def dkwJ9_copyOfRange_2_3 : List UInt8 := [58, 5, 42, 27, 25, 5, 3, 42, 190, 27, 100, 21, 4, 184, 1, 48, 184, 0, 150, 25, 5, 176]
abbrev dktJ9_copyOfRange_2_3 : List UInt8 := dkwJ9_copyOfRange_2_3 ++ []
def dkwJ9_copyOfRange_2_2 : List UInt8 := [166, 0, 11, 21, 4, 189, 0, 2, 167, 0, 15, 45, 182, 0, 90, 21, 4, 184, 0, 95, 192, 0, 110]
abbrev dktJ9_copyOfRange_2_2 : List UInt8 := dkwJ9_copyOfRange_2_2 ++ dktJ9_copyOfRange_2_3
def dkwJ9_copyOfRange_2_1 : List UInt8 := [182, 0, 54, 19, 1, 81, 182, 0, 50, 28, 182, 0, 54, 182, 0, 61, 183, 0, 65, 191, 45, 18, 110]
abbrev dktJ9_copyOfRange_2_1 : List UInt8 := dkwJ9_copyOfRange_2_1 ++ dktJ9_copyOfRange_2_2
def dkwJ9_copyOfRange_2_0 : List UInt8 := [28, 27, 100, 54, 4, 21, 4, 156, 0, 35, 187, 0, 43, 89, 187, 0, 45, 89, 183, 0, 47, 27]
abbrev dktJ9_copyOfRange_2_0 : List UInt8 := dkwJ9_copyOfRange_2_0 ++ dktJ9_copyOfRange_2_1
theorem dksJ9_copyOfRange_2_0 : cJ9_copyOfRange_2.data.toList.drop 0 = dktJ9_copyOfRange_2_0 := by decide +kernel
theorem dksJ9_copyOfRange_2_1 : cJ9_copyOfRange_2.data.toList.drop 22 = dktJ9_copyOfRange_2_1 := dk_seg dksJ9_copyOfRange_2_0 22 rfl rfl
theorem dksJ9_copyOfRange_2_2 : cJ9_copyOfRange_2.data.toList.drop 45 = dktJ9_copyOfRange_2_2 := dk_seg dksJ9_copyOfRange_2_1 23 rfl rfl
theorem dksJ9_copyOfRange_2_3 : cJ9_copyOfRange_2.data.toList.drop 68 = dktJ9_copyOfRange_2_3 := dk_seg dksJ9_copyOfRange_2_2 23 rfl rfl
theorem dJ9_copyOfRange_2_0 : decode cJ9_copyOfRange_2 0 = .ok (.iload_n 2, 1) := dk_28 (dk_at dksJ9_copyOfRange_2_0 0 rfl rfl)
theorem dJ9_copyOfRange_2_1 : decode cJ9_copyOfRange_2 1 = .ok (.iload_n 1, 1) := dk_27 (dk_at dksJ9_copyOfRange_2_0 1 rfl rfl)
theorem dJ9_copyOfRange_2_2 : decode cJ9_copyOfRange_2 2 = .ok (.isub, 1) := dk_100 (dk_at dksJ9_copyOfRange_2_0 2 rfl rfl)
theorem dJ9_copyOfRange_2_3 : decode cJ9_copyOfRange_2 3 = .ok (.istore 4, 2) := dk_54 4 (dk_at dksJ9_copyOfRange_2_0 3 rfl rfl)
theorem dJ9_copyOfRange_2_5 : decode cJ9_copyOfRange_2 5 = .ok (.iload 4, 2) := dk_21 4 (dk_at dksJ9_copyOfRange_2_0 5 rfl rfl)
theorem dJ9_copyOfRange_2_7 : decode cJ9_copyOfRange_2 7 = .ok (.ifCond .ge 35, 3) := dk_156 0 35 (dk_at dksJ9_copyOfRange_2_0 7 rfl rfl)
theorem dJ9_copyOfRange_2_10 : decode cJ9_copyOfRange_2 10 = .ok (.new 43, 3) := dk_187 0 43 (dk_at dksJ9_copyOfRange_2_0 10 rfl rfl)
theorem dJ9_copyOfRange_2_13 : decode cJ9_copyOfRange_2 13 = .ok (.dup, 1) := dk_89 (dk_at dksJ9_copyOfRange_2_0 13 rfl rfl)
theorem dJ9_copyOfRange_2_14 : decode cJ9_copyOfRange_2 14 = .ok (.new 45, 3) := dk_187 0 45 (dk_at dksJ9_copyOfRange_2_0 14 rfl rfl)
theorem dJ9_copyOfRange_2_17 : decode cJ9_copyOfRange_2 17 = .ok (.dup, 1) := dk_89 (dk_at dksJ9_copyOfRange_2_0 17 rfl rfl)
theorem dJ9_copyOfRange_2_18 : decode cJ9_copyOfRange_2 18 = .ok (.invokespecial 47, 3) := dk_183 0 47 (dk_at dksJ9_copyOfRange_2_0 18 rfl rfl)
theorem dJ9_copyOfRange_2_21 : decode cJ9_copyOfRange_2 21 = .ok (.iload_n 1, 1) := dk_27 (dk_at dksJ9_copyOfRange_2_0 21 rfl rfl)
theorem dJ9_copyOfRange_2_22 : decode cJ9_copyOfRange_2 22 = .ok (.invokevirtual 54, 3) := dk_182 0 54 (dk_at dksJ9_copyOfRange_2_1 0 rfl rfl)
theorem dJ9_copyOfRange_2_25 : decode cJ9_copyOfRange_2 25 = .ok (.ldc_w 337, 3) := dk_19 1 81 (dk_at dksJ9_copyOfRange_2_1 3 rfl rfl)
theorem dJ9_copyOfRange_2_28 : decode cJ9_copyOfRange_2 28 = .ok (.invokevirtual 50, 3) := dk_182 0 50 (dk_at dksJ9_copyOfRange_2_1 6 rfl rfl)
theorem dJ9_copyOfRange_2_31 : decode cJ9_copyOfRange_2 31 = .ok (.iload_n 2, 1) := dk_28 (dk_at dksJ9_copyOfRange_2_1 9 rfl rfl)
theorem dJ9_copyOfRange_2_32 : decode cJ9_copyOfRange_2 32 = .ok (.invokevirtual 54, 3) := dk_182 0 54 (dk_at dksJ9_copyOfRange_2_1 10 rfl rfl)
theorem dJ9_copyOfRange_2_35 : decode cJ9_copyOfRange_2 35 = .ok (.invokevirtual 61, 3) := dk_182 0 61 (dk_at dksJ9_copyOfRange_2_1 13 rfl rfl)
theorem dJ9_copyOfRange_2_38 : decode cJ9_copyOfRange_2 38 = .ok (.invokespecial 65, 3) := dk_183 0 65 (dk_at dksJ9_copyOfRange_2_1 16 rfl rfl)
theorem dJ9_copyOfRange_2_41 : decode cJ9_copyOfRange_2 41 = .ok (.athrow, 1) := dk_191 (dk_at dksJ9_copyOfRange_2_1 19 rfl rfl)
theorem dJ9_copyOfRange_2_42 : decode cJ9_copyOfRange_2 42 = .ok (.aload_n 3, 1) := dk_45 (dk_at dksJ9_copyOfRange_2_1 20 rfl rfl)
theorem dJ9_copyOfRange_2_43 : decode cJ9_copyOfRange_2 43 = .ok (.ldc 110, 2) := dk_18 110 (dk_at dksJ9_copyOfRange_2_1 21 rfl rfl)
theorem dJ9_copyOfRange_2_45 : decode cJ9_copyOfRange_2 45 = .ok (.if_acmp .ne 11, 3) := dk_166 0 11 (dk_at dksJ9_copyOfRange_2_2 0 rfl rfl)
theorem dJ9_copyOfRange_2_48 : decode cJ9_copyOfRange_2 48 = .ok (.iload 4, 2) := dk_21 4 (dk_at dksJ9_copyOfRange_2_2 3 rfl rfl)
theorem dJ9_copyOfRange_2_50 : decode cJ9_copyOfRange_2 50 = .ok (.anewarray 2, 3) := dk_189 0 2 (dk_at dksJ9_copyOfRange_2_2 5 rfl rfl)
theorem dJ9_copyOfRange_2_53 : decode cJ9_copyOfRange_2 53 = .ok (.goto 15, 3) := dk_167 0 15 (dk_at dksJ9_copyOfRange_2_2 8 rfl rfl)
theorem dJ9_copyOfRange_2_56 : decode cJ9_copyOfRange_2 56 = .ok (.aload_n 3, 1) := dk_45 (dk_at dksJ9_copyOfRange_2_2 11 rfl rfl)
theorem dJ9_copyOfRange_2_57 : decode cJ9_copyOfRange_2 57 = .ok (.invokevirtual 90, 3) := dk_182 0 90 (dk_at dksJ9_copyOfRange_2_2 12 rfl rfl)
theorem dJ9_copyOfRange_2_60 : decode cJ9_copyOfRange_2 60 = .ok (.iload 4, 2) := dk_21 4 (dk_at dksJ9_copyOfRange_2_2 15 rfl rfl)
theorem dJ9_copyOfRange_2_62 : decode cJ9_copyOfRange_2 62 = .ok (.invokestatic 95, 3) := dk_184 0 95 (dk_at dksJ9_copyOfRange_2_2 17 rfl rfl)
theorem dJ9_copyOfRange_2_65 : decode cJ9_copyOfRange_2 65 = .ok (.checkcast 110, 3) := dk_192 0 110 (dk_at dksJ9_copyOfRange_2_2 20 rfl rfl)
theorem dJ9_copyOfRange_2_68 : decode cJ9_copyOfRange_2 68 = .ok (.astore 5, 2) := dk_58 5 (dk_at dksJ9_copyOfRange_2_3 0 rfl rfl)
theorem dJ9_copyOfRange_2_70 : decode cJ9_copyOfRange_2 70 = .ok (.aload_n 0, 1) := dk_42 (dk_at dksJ9_copyOfRange_2_3 2 rfl rfl)
theorem dJ9_copyOfRange_2_71 : decode cJ9_copyOfRange_2 71 = .ok (.iload_n 1, 1) := dk_27 (dk_at dksJ9_copyOfRange_2_3 3 rfl rfl)
theorem dJ9_copyOfRange_2_72 : decode cJ9_copyOfRange_2 72 = .ok (.aload 5, 2) := dk_25 5 (dk_at dksJ9_copyOfRange_2_3 4 rfl rfl)
theorem dJ9_copyOfRange_2_74 : decode cJ9_copyOfRange_2 74 = .ok (.iconst 0, 1) := dk_3 (dk_at dksJ9_copyOfRange_2_3 6 rfl rfl)
theorem dJ9_copyOfRange_2_75 : decode cJ9_copyOfRange_2 75 = .ok (.aload_n 0, 1) := dk_42 (dk_at dksJ9_copyOfRange_2_3 7 rfl rfl)
theorem dJ9_copyOfRange_2_76 : decode cJ9_copyOfRange_2 76 = .ok (.arraylength, 1) := dk_190 (dk_at dksJ9_copyOfRange_2_3 8 rfl rfl)
theorem dJ9_copyOfRange_2_77 : decode cJ9_copyOfRange_2 77 = .ok (.iload_n 1, 1) := dk_27 (dk_at dksJ9_copyOfRange_2_3 9 rfl rfl)
theorem dJ9_copyOfRange_2_78 : decode cJ9_copyOfRange_2 78 = .ok (.isub, 1) := dk_100 (dk_at dksJ9_copyOfRange_2_3 10 rfl rfl)
theorem dJ9_copyOfRange_2_79 : decode cJ9_copyOfRange_2 79 = .ok (.iload 4, 2) := dk_21 4 (dk_at dksJ9_copyOfRange_2_3 11 rfl rfl)
theorem dJ9_copyOfRange_2_81 : decode cJ9_copyOfRange_2 81 = .ok (.invokestatic 304, 3) := dk_184 1 48 (dk_at dksJ9_copyOfRange_2_3 13 rfl rfl)
theorem dJ9_copyOfRange_2_84 : decode cJ9_copyOfRange_2 84 = .ok (.invokestatic 150, 3) := dk_184 0 150 (dk_at dksJ9_copyOfRange_2_3 16 rfl rfl)
theorem dJ9_copyOfRange_2_87 : decode cJ9_copyOfRange_2 87 = .ok (.aload 5, 2) := dk_25 5 (dk_at dksJ9_copyOfRange_2_3 19 rfl rfl)
theorem dJ9_copyOfRange_2_89 : decode cJ9_copyOfRange_2 89 = .ok (.areturn, 1) := dk_176 (dk_at dksJ9_copyOfRange_2_3 21 rfl rfl)
abbrev cJ9_fill : ByteArray := prog_59_method_110_code
def yJ9_fill : MethodName := ⟨RJ9, "fill", "([BIIB)V"⟩
def dkwJ9_fill_1 : List UInt8 := [167, 255, 242, 177]
abbrev dktJ9_fill_1 : List UInt8 := dkwJ9_fill_1 ++ []
def dkwJ9_fill_0 : List UInt8 := [42, 190, 27, 28, 184, 0, 13, 27, 54, 4, 21, 4, 28, 162, 0, 14, 42, 21, 4, 29, 84, 132, 4, 1]
abbrev dktJ9_fill_0 : List UInt8 := dkwJ9_fill_0 ++ dktJ9_fill_1
theorem dksJ9_fill_0 : cJ9_fill.data.toList.drop 0 = dktJ9_fill_0 := by decide +kernel
theorem dksJ9_fill_1 : cJ9_fill.data.toList.drop 24 = dktJ9_fill_1 := dk_seg dksJ9_fill_0 24 rfl rfl
theorem dJ9_fill_0 : decode cJ9_fill 0 = .ok (.aload_n 0, 1) := dk_42 (dk_at dksJ9_fill_0 0 rfl rfl)
theorem dJ9_fill_1 : decode cJ9_fill 1 = .ok (.arraylength, 1) := dk_190 (dk_at dksJ9_fill_0 1 rfl rfl)
theorem dJ9_fill_2 : decode cJ9_fill 2 = .ok (.iload_n 1, 1) := dk_27 (dk_at dksJ9_fill_0 2 rfl rfl)
theorem dJ9_fill_3 : decode cJ9_fill 3 = .ok (.iload_n 2, 1) := dk_28 (dk_at dksJ9_fill_0 3 rfl rfl)
theorem dJ9_fill_4 : decode cJ9_fill 4 = .ok (.invokestatic 13, 3) := dk_184 0 13 (dk_at dksJ9_fill_0 4 rfl rfl)
theorem dJ9_fill_7 : decode cJ9_fill 7 = .ok (.iload_n 1, 1) := dk_27 (dk_at dksJ9_fill_0 7 rfl rfl)
theorem dJ9_fill_8 : decode cJ9_fill 8 = .ok (.istore 4, 2) := dk_54 4 (dk_at dksJ9_fill_0 8 rfl rfl)
theorem dJ9_fill_10 : decode cJ9_fill 10 = .ok (.iload 4, 2) := dk_21 4 (dk_at dksJ9_fill_0 10 rfl rfl)
theorem dJ9_fill_12 : decode cJ9_fill 12 = .ok (.iload_n 2, 1) := dk_28 (dk_at dksJ9_fill_0 12 rfl rfl)
theorem dJ9_fill_13 : decode cJ9_fill 13 = .ok (.if_icmp .ge 14, 3) := dk_162 0 14 (dk_at dksJ9_fill_0 13 rfl rfl)
theorem dJ9_fill_16 : decode cJ9_fill 16 = .ok (.aload_n 0, 1) := dk_42 (dk_at dksJ9_fill_0 16 rfl rfl)
theorem dJ9_fill_17 : decode cJ9_fill 17 = .ok (.iload 4, 2) := dk_21 4 (dk_at dksJ9_fill_0 17 rfl rfl)
theorem dJ9_fill_19 : decode cJ9_fill 19 = .ok (.iload_n 3, 1) := dk_29 (dk_at dksJ9_fill_0 19 rfl rfl)
theorem dJ9_fill_20 : decode cJ9_fill 20 = .ok (.bastore, 1) := dk_84 (dk_at dksJ9_fill_0 20 rfl rfl)
theorem dJ9_fill_21 : decode cJ9_fill 21 = .ok (.iinc 4 1, 3) := dk_132 4 1 (dk_at dksJ9_fill_0 21 rfl rfl)
theorem dJ9_fill_24 : decode cJ9_fill 24 = .ok (.goto (-14), 3) := dk_167 255 242 (dk_at dksJ9_fill_1 0 rfl rfl)
theorem dJ9_fill_27 : decode cJ9_fill 27 = .ok (.return_, 1) := dk_177 (dk_at dksJ9_fill_1 3 rfl rfl)
abbrev cJ9_rangeCheck : ByteArray := prog_59_method_30_code
def yJ9_rangeCheck : MethodName := ⟨RJ9, "rangeCheck", "(III)V"⟩
def dkwJ9_rangeCheck_3 : List UInt8 := [183, 0, 70, 191, 177]
abbrev dktJ9_rangeCheck_3 : List UInt8 := dkwJ9_rangeCheck_3 ++ []
def dkwJ9_rangeCheck_2 : List UInt8 := [27, 156, 0, 12, 187, 0, 68, 89, 27, 183, 0, 70, 191, 28, 26, 164, 0, 12, 187, 0, 68, 89, 28]
abbrev dktJ9_rangeCheck_2 : List UInt8 := dkwJ9_rangeCheck_2 ++ dktJ9_rangeCheck_3
def dkwJ9_rangeCheck_1 : List UInt8 := [182, 0, 54, 18, 57, 182, 0, 50, 28, 182, 0, 54, 18, 59, 182, 0, 50, 182, 0, 61, 183, 0, 65, 191]
abbrev dktJ9_rangeCheck_1 : List UInt8 := dkwJ9_rangeCheck_1 ++ dktJ9_rangeCheck_2
def dkwJ9_rangeCheck_0 : List UInt8 := [27, 28, 164, 0, 44, 187, 0, 43, 89, 187, 0, 45, 89, 183, 0, 47, 18, 48, 182, 0, 50, 27]
abbrev dktJ9_rangeCheck_0 : List UInt8 := dkwJ9_rangeCheck_0 ++ dktJ9_rangeCheck_1
theorem dksJ9_rangeCheck_0 : cJ9_rangeCheck.data.toList.drop 0 = dktJ9_rangeCheck_0 := by decide +kernel
theorem dksJ9_rangeCheck_1 : cJ9_rangeCheck.data.toList.drop 22 = dktJ9_rangeCheck_1 := dk_seg dksJ9_rangeCheck_0 22 rfl rfl
theorem dksJ9_rangeCheck_2 : cJ9_rangeCheck.data.toList.drop 46 = dktJ9_rangeCheck_2 := dk_seg dksJ9_rangeCheck_1 24 rfl rfl
theorem dksJ9_rangeCheck_3 : cJ9_rangeCheck.data.toList.drop 69 = dktJ9_rangeCheck_3 := dk_seg dksJ9_rangeCheck_2 23 rfl rfl
theorem dJ9_rangeCheck_0 : decode cJ9_rangeCheck 0 = .ok (.iload_n 1, 1) := dk_27 (dk_at dksJ9_rangeCheck_0 0 rfl rfl)
theorem dJ9_rangeCheck_1 : decode cJ9_rangeCheck 1 = .ok (.iload_n 2, 1) := dk_28 (dk_at dksJ9_rangeCheck_0 1 rfl rfl)
theorem dJ9_rangeCheck_2 : decode cJ9_rangeCheck 2 = .ok (.if_icmp .le 44, 3) := dk_164 0 44 (dk_at dksJ9_rangeCheck_0 2 rfl rfl)
theorem dJ9_rangeCheck_5 : decode cJ9_rangeCheck 5 = .ok (.new 43, 3) := dk_187 0 43 (dk_at dksJ9_rangeCheck_0 5 rfl rfl)
theorem dJ9_rangeCheck_8 : decode cJ9_rangeCheck 8 = .ok (.dup, 1) := dk_89 (dk_at dksJ9_rangeCheck_0 8 rfl rfl)
theorem dJ9_rangeCheck_9 : decode cJ9_rangeCheck 9 = .ok (.new 45, 3) := dk_187 0 45 (dk_at dksJ9_rangeCheck_0 9 rfl rfl)
theorem dJ9_rangeCheck_12 : decode cJ9_rangeCheck 12 = .ok (.dup, 1) := dk_89 (dk_at dksJ9_rangeCheck_0 12 rfl rfl)
theorem dJ9_rangeCheck_13 : decode cJ9_rangeCheck 13 = .ok (.invokespecial 47, 3) := dk_183 0 47 (dk_at dksJ9_rangeCheck_0 13 rfl rfl)
theorem dJ9_rangeCheck_16 : decode cJ9_rangeCheck 16 = .ok (.ldc 48, 2) := dk_18 48 (dk_at dksJ9_rangeCheck_0 16 rfl rfl)
theorem dJ9_rangeCheck_18 : decode cJ9_rangeCheck 18 = .ok (.invokevirtual 50, 3) := dk_182 0 50 (dk_at dksJ9_rangeCheck_0 18 rfl rfl)
theorem dJ9_rangeCheck_21 : decode cJ9_rangeCheck 21 = .ok (.iload_n 1, 1) := dk_27 (dk_at dksJ9_rangeCheck_0 21 rfl rfl)
theorem dJ9_rangeCheck_22 : decode cJ9_rangeCheck 22 = .ok (.invokevirtual 54, 3) := dk_182 0 54 (dk_at dksJ9_rangeCheck_1 0 rfl rfl)
theorem dJ9_rangeCheck_25 : decode cJ9_rangeCheck 25 = .ok (.ldc 57, 2) := dk_18 57 (dk_at dksJ9_rangeCheck_1 3 rfl rfl)
theorem dJ9_rangeCheck_27 : decode cJ9_rangeCheck 27 = .ok (.invokevirtual 50, 3) := dk_182 0 50 (dk_at dksJ9_rangeCheck_1 5 rfl rfl)
theorem dJ9_rangeCheck_30 : decode cJ9_rangeCheck 30 = .ok (.iload_n 2, 1) := dk_28 (dk_at dksJ9_rangeCheck_1 8 rfl rfl)
theorem dJ9_rangeCheck_31 : decode cJ9_rangeCheck 31 = .ok (.invokevirtual 54, 3) := dk_182 0 54 (dk_at dksJ9_rangeCheck_1 9 rfl rfl)
theorem dJ9_rangeCheck_34 : decode cJ9_rangeCheck 34 = .ok (.ldc 59, 2) := dk_18 59 (dk_at dksJ9_rangeCheck_1 12 rfl rfl)
theorem dJ9_rangeCheck_36 : decode cJ9_rangeCheck 36 = .ok (.invokevirtual 50, 3) := dk_182 0 50 (dk_at dksJ9_rangeCheck_1 14 rfl rfl)
theorem dJ9_rangeCheck_39 : decode cJ9_rangeCheck 39 = .ok (.invokevirtual 61, 3) := dk_182 0 61 (dk_at dksJ9_rangeCheck_1 17 rfl rfl)
theorem dJ9_rangeCheck_42 : decode cJ9_rangeCheck 42 = .ok (.invokespecial 65, 3) := dk_183 0 65 (dk_at dksJ9_rangeCheck_1 20 rfl rfl)
theorem dJ9_rangeCheck_45 : decode cJ9_rangeCheck 45 = .ok (.athrow, 1) := dk_191 (dk_at dksJ9_rangeCheck_1 23 rfl rfl)
theorem dJ9_rangeCheck_46 : decode cJ9_rangeCheck 46 = .ok (.iload_n 1, 1) := dk_27 (dk_at dksJ9_rangeCheck_2 0 rfl rfl)
theorem dJ9_rangeCheck_47 : decode cJ9_rangeCheck 47 = .ok (.ifCond .ge 12, 3) := dk_156 0 12 (dk_at dksJ9_rangeCheck_2 1 rfl rfl)
theorem dJ9_rangeCheck_50 : decode cJ9_rangeCheck 50 = .ok (.new 68, 3) := dk_187 0 68 (dk_at dksJ9_rangeCheck_2 4 rfl rfl)
theorem dJ9_rangeCheck_53 : decode cJ9_rangeCheck 53 = .ok (.dup, 1) := dk_89 (dk_at dksJ9_rangeCheck_2 7 rfl rfl)
theorem dJ9_rangeCheck_54 : decode cJ9_rangeCheck 54 = .ok (.iload_n 1, 1) := dk_27 (dk_at dksJ9_rangeCheck_2 8 rfl rfl)
theorem dJ9_rangeCheck_55 : decode cJ9_rangeCheck 55 = .ok (.invokespecial 70, 3) := dk_183 0 70 (dk_at dksJ9_rangeCheck_2 9 rfl rfl)
theorem dJ9_rangeCheck_58 : decode cJ9_rangeCheck 58 = .ok (.athrow, 1) := dk_191 (dk_at dksJ9_rangeCheck_2 12 rfl rfl)
theorem dJ9_rangeCheck_59 : decode cJ9_rangeCheck 59 = .ok (.iload_n 2, 1) := dk_28 (dk_at dksJ9_rangeCheck_2 13 rfl rfl)
theorem dJ9_rangeCheck_60 : decode cJ9_rangeCheck 60 = .ok (.iload_n 0, 1) := dk_26 (dk_at dksJ9_rangeCheck_2 14 rfl rfl)
theorem dJ9_rangeCheck_61 : decode cJ9_rangeCheck 61 = .ok (.if_icmp .le 12, 3) := dk_164 0 12 (dk_at dksJ9_rangeCheck_2 15 rfl rfl)
theorem dJ9_rangeCheck_64 : decode cJ9_rangeCheck 64 = .ok (.new 68, 3) := dk_187 0 68 (dk_at dksJ9_rangeCheck_2 18 rfl rfl)
theorem dJ9_rangeCheck_67 : decode cJ9_rangeCheck 67 = .ok (.dup, 1) := dk_89 (dk_at dksJ9_rangeCheck_2 21 rfl rfl)
theorem dJ9_rangeCheck_68 : decode cJ9_rangeCheck 68 = .ok (.iload_n 2, 1) := dk_28 (dk_at dksJ9_rangeCheck_2 22 rfl rfl)
theorem dJ9_rangeCheck_69 : decode cJ9_rangeCheck 69 = .ok (.invokespecial 70, 3) := dk_183 0 70 (dk_at dksJ9_rangeCheck_3 0 rfl rfl)
theorem dJ9_rangeCheck_72 : decode cJ9_rangeCheck 72 = .ok (.athrow, 1) := dk_191 (dk_at dksJ9_rangeCheck_3 3 rfl rfl)
theorem dJ9_rangeCheck_73 : decode cJ9_rangeCheck 73 = .ok (.return_, 1) := dk_177 (dk_at dksJ9_rangeCheck_3 4 rfl rfl)
abbrev cJ10_init : ByteArray := prog_66_method_1_code
def yJ10_init : MethodName := ⟨RJ10, "<init>", "(Ljava/util/LinkedList$Node;Ljava/lang/Object;Ljava/util/LinkedList$Node;)V"⟩
def dkwJ10_init_0 : List UInt8 := [42, 183, 0, 1, 42, 44, 181, 0, 7, 42, 45, 181, 0, 13, 42, 43, 181, 0, 17, 177]
abbrev dktJ10_init_0 : List UInt8 := dkwJ10_init_0 ++ []
theorem dksJ10_init_0 : cJ10_init.data.toList.drop 0 = dktJ10_init_0 := by decide +kernel
theorem dJ10_init_0 : decode cJ10_init 0 = .ok (.aload_n 0, 1) := dk_42 (dk_at dksJ10_init_0 0 rfl rfl)
theorem dJ10_init_1 : decode cJ10_init 1 = .ok (.invokespecial 1, 3) := dk_183 0 1 (dk_at dksJ10_init_0 1 rfl rfl)
theorem dJ10_init_4 : decode cJ10_init 4 = .ok (.aload_n 0, 1) := dk_42 (dk_at dksJ10_init_0 4 rfl rfl)
theorem dJ10_init_5 : decode cJ10_init 5 = .ok (.aload_n 2, 1) := dk_44 (dk_at dksJ10_init_0 5 rfl rfl)
theorem dJ10_init_6 : decode cJ10_init 6 = .ok (.putfield 7, 3) := dk_181 0 7 (dk_at dksJ10_init_0 6 rfl rfl)
theorem dJ10_init_9 : decode cJ10_init 9 = .ok (.aload_n 0, 1) := dk_42 (dk_at dksJ10_init_0 9 rfl rfl)
theorem dJ10_init_10 : decode cJ10_init 10 = .ok (.aload_n 3, 1) := dk_45 (dk_at dksJ10_init_0 10 rfl rfl)
theorem dJ10_init_11 : decode cJ10_init 11 = .ok (.putfield 13, 3) := dk_181 0 13 (dk_at dksJ10_init_0 11 rfl rfl)
theorem dJ10_init_14 : decode cJ10_init 14 = .ok (.aload_n 0, 1) := dk_42 (dk_at dksJ10_init_0 14 rfl rfl)
theorem dJ10_init_15 : decode cJ10_init 15 = .ok (.aload_n 1, 1) := dk_43 (dk_at dksJ10_init_0 15 rfl rfl)
theorem dJ10_init_16 : decode cJ10_init 16 = .ok (.putfield 17, 3) := dk_181 0 17 (dk_at dksJ10_init_0 16 rfl rfl)
theorem dJ10_init_19 : decode cJ10_init 19 = .ok (.return_, 1) := dk_177 (dk_at dksJ10_init_0 19 rfl rfl)
abbrev cJ11_init : ByteArray := prog_54_method_3_code
def yJ11_init : MethodName := ⟨RJ11, "<init>", "()V"⟩
def dkwJ11_init_0 : List UInt8 := [42, 183, 0, 42, 42, 16, 17, 189, 0, 47, 181, 0, 3, 177]
abbrev dktJ11_init_0 : List UInt8 := dkwJ11_init_0 ++ []
theorem dksJ11_init_0 : cJ11_init.data.toList.drop 0 = dktJ11_init_0 := by decide +kernel
theorem dJ11_init_0 : decode cJ11_init 0 = .ok (.aload_n 0, 1) := dk_42 (dk_at dksJ11_init_0 0 rfl rfl)
theorem dJ11_init_1 : decode cJ11_init 1 = .ok (.invokespecial 42, 3) := dk_183 0 42 (dk_at dksJ11_init_0 1 rfl rfl)
theorem dJ11_init_4 : decode cJ11_init 4 = .ok (.aload_n 0, 1) := dk_42 (dk_at dksJ11_init_0 4 rfl rfl)
theorem dJ11_init_5 : decode cJ11_init 5 = .ok (.bipush 17, 2) := dk_16 17 (dk_at dksJ11_init_0 5 rfl rfl)
theorem dJ11_init_7 : decode cJ11_init 7 = .ok (.anewarray 47, 3) := dk_189 0 47 (dk_at dksJ11_init_0 7 rfl rfl)
theorem dJ11_init_10 : decode cJ11_init 10 = .ok (.putfield 3, 3) := dk_181 0 3 (dk_at dksJ11_init_0 10 rfl rfl)
theorem dJ11_init_13 : decode cJ11_init 13 = .ok (.return_, 1) := dk_177 (dk_at dksJ11_init_0 13 rfl rfl)
abbrev cJ11_nonNullElementAt : ByteArray := prog_54_method_11_code
def yJ11_nonNullElementAt : MethodName := ⟨RJ11, "nonNullElementAt", "([Ljava/lang/Object;I)Ljava/lang/Object;"⟩
def dkwJ11_nonNullElementAt_0 : List UInt8 := [42, 27, 50, 77, 44, 199, 0, 11, 187, 0, 62, 89, 183, 0, 64, 191, 44, 176]
abbrev dktJ11_nonNullElementAt_0 : List UInt8 := dkwJ11_nonNullElementAt_0 ++ []
theorem dksJ11_nonNullElementAt_0 : cJ11_nonNullElementAt.data.toList.drop 0 = dktJ11_nonNullElementAt_0 := by decide +kernel
theorem dJ11_nonNullElementAt_0 : decode cJ11_nonNullElementAt 0 = .ok (.aload_n 0, 1) := dk_42 (dk_at dksJ11_nonNullElementAt_0 0 rfl rfl)
theorem dJ11_nonNullElementAt_1 : decode cJ11_nonNullElementAt 1 = .ok (.iload_n 1, 1) := dk_27 (dk_at dksJ11_nonNullElementAt_0 1 rfl rfl)
theorem dJ11_nonNullElementAt_2 : decode cJ11_nonNullElementAt 2 = .ok (.aaload, 1) := dk_50 (dk_at dksJ11_nonNullElementAt_0 2 rfl rfl)
theorem dJ11_nonNullElementAt_3 : decode cJ11_nonNullElementAt 3 = .ok (.astore_n 2, 1) := dk_77 (dk_at dksJ11_nonNullElementAt_0 3 rfl rfl)
theorem dJ11_nonNullElementAt_4 : decode cJ11_nonNullElementAt 4 = .ok (.aload_n 2, 1) := dk_44 (dk_at dksJ11_nonNullElementAt_0 4 rfl rfl)
theorem dJ11_nonNullElementAt_5 : decode cJ11_nonNullElementAt 5 = .ok (.ifnonnull 11, 3) := dk_199 0 11 (dk_at dksJ11_nonNullElementAt_0 5 rfl rfl)
theorem dJ11_nonNullElementAt_8 : decode cJ11_nonNullElementAt 8 = .ok (.new 62, 3) := dk_187 0 62 (dk_at dksJ11_nonNullElementAt_0 8 rfl rfl)
theorem dJ11_nonNullElementAt_11 : decode cJ11_nonNullElementAt 11 = .ok (.dup, 1) := dk_89 (dk_at dksJ11_nonNullElementAt_0 11 rfl rfl)
theorem dJ11_nonNullElementAt_12 : decode cJ11_nonNullElementAt 12 = .ok (.invokespecial 64, 3) := dk_183 0 64 (dk_at dksJ11_nonNullElementAt_0 12 rfl rfl)
theorem dJ11_nonNullElementAt_15 : decode cJ11_nonNullElementAt 15 = .ok (.athrow, 1) := dk_191 (dk_at dksJ11_nonNullElementAt_0 15 rfl rfl)
theorem dJ11_nonNullElementAt_16 : decode cJ11_nonNullElementAt 16 = .ok (.aload_n 2, 1) := dk_44 (dk_at dksJ11_nonNullElementAt_0 16 rfl rfl)
theorem dJ11_nonNullElementAt_17 : decode cJ11_nonNullElementAt 17 = .ok (.areturn, 1) := dk_176 (dk_at dksJ11_nonNullElementAt_0 17 rfl rfl)
abbrev cJ11_inc : ByteArray := prog_54_method_6_code
def yJ11_inc : MethodName := ⟨RJ11, "inc", "(II)I"⟩
def dkwJ11_inc_0 : List UInt8 := [132, 0, 1, 26, 27, 161, 0, 5, 3, 59, 26, 172]
abbrev dktJ11_inc_0 : List UInt8 := dkwJ11_inc_0 ++ []
theorem dksJ11_inc_0 : cJ11_inc.data.toList.drop 0 = dktJ11_inc_0 := by decide +kernel
theorem dJ11_inc_0 : decode cJ11_inc 0 = .ok (.iinc 0 1, 3) := dk_132 0 1 (dk_at dksJ11_inc_0 0 rfl rfl)
theorem dJ11_inc_3 : decode cJ11_inc 3 = .ok (.iload_n 0, 1) := dk_26 (dk_at dksJ11_inc_0 3 rfl rfl)
theorem dJ11_inc_4 : decode cJ11_inc 4 = .ok (.iload_n 1, 1) := dk_27 (dk_at dksJ11_inc_0 4 rfl rfl)
theorem dJ11_inc_5 : decode cJ11_inc 5 = .ok (.if_icmp .lt 5, 3) := dk_161 0 5 (dk_at dksJ11_inc_0 5 rfl rfl)
theorem dJ11_inc_8 : decode cJ11_inc 8 = .ok (.iconst 0, 1) := dk_3 (dk_at dksJ11_inc_0 8 rfl rfl)
theorem dJ11_inc_9 : decode cJ11_inc 9 = .ok (.istore_n 0, 1) := dk_59 (dk_at dksJ11_inc_0 9 rfl rfl)
theorem dJ11_inc_10 : decode cJ11_inc 10 = .ok (.iload_n 0, 1) := dk_26 (dk_at dksJ11_inc_0 10 rfl rfl)
theorem dJ11_inc_11 : decode cJ11_inc 11 = .ok (.ireturn, 1) := dk_172 (dk_at dksJ11_inc_0 11 rfl rfl)
abbrev cJ11_poll : ByteArray := prog_54_method_31_code
def yJ11_poll : MethodName := ⟨RJ11, "poll", "()Ljava/lang/Object;"⟩
theorem dJ11_poll_0 : decode cJ11_poll 0 = .ok (.aload_n 0, 1) := by decide +kernel
theorem dJ11_poll_1 : decode cJ11_poll 1 = .ok (.invokevirtual 93, 3) := by decide +kernel
theorem dJ11_poll_4 : decode cJ11_poll 4 = .ok (.areturn, 1) := by decide +kernel
abbrev cJ11_pollFirst : ByteArray := prog_54_method_20_code
def yJ11_pollFirst : MethodName := ⟨RJ11, "pollFirst", "()Ljava/lang/Object;"⟩
def dkwJ11_pollFirst_1 : List UInt8 := [42, 28, 43, 190, 184, 0, 74, 181, 0, 24, 45, 176]
abbrev dktJ11_pollFirst_1 : List UInt8 := dkwJ11_pollFirst_1 ++ []
def dkwJ11_pollFirst_0 : List UInt8 := [42, 180, 0, 3, 89, 76, 42, 180, 0, 24, 89, 61, 184, 0, 103, 78, 45, 198, 0, 17, 43, 28, 1, 83]
abbrev dktJ11_pollFirst_0 : List UInt8 := dkwJ11_pollFirst_0 ++ dktJ11_pollFirst_1
theorem dksJ11_pollFirst_0 : cJ11_pollFirst.data.toList.drop 0 = dktJ11_pollFirst_0 := by decide +kernel
theorem dksJ11_pollFirst_1 : cJ11_pollFirst.data.toList.drop 24 = dktJ11_pollFirst_1 := dk_seg dksJ11_pollFirst_0 24 rfl rfl
theorem dJ11_pollFirst_0 : decode cJ11_pollFirst 0 = .ok (.aload_n 0, 1) := dk_42 (dk_at dksJ11_pollFirst_0 0 rfl rfl)
theorem dJ11_pollFirst_1 : decode cJ11_pollFirst 1 = .ok (.getfield 3, 3) := dk_180 0 3 (dk_at dksJ11_pollFirst_0 1 rfl rfl)
theorem dJ11_pollFirst_4 : decode cJ11_pollFirst 4 = .ok (.dup, 1) := dk_89 (dk_at dksJ11_pollFirst_0 4 rfl rfl)
theorem dJ11_pollFirst_5 : decode cJ11_pollFirst 5 = .ok (.astore_n 1, 1) := dk_76 (dk_at dksJ11_pollFirst_0 5 rfl rfl)
theorem dJ11_pollFirst_6 : decode cJ11_pollFirst 6 = .ok (.aload_n 0, 1) := dk_42 (dk_at dksJ11_pollFirst_0 6 rfl rfl)
theorem dJ11_pollFirst_7 : decode cJ11_pollFirst 7 = .ok (.getfield 24, 3) := dk_180 0 24 (dk_at dksJ11_pollFirst_0 7 rfl rfl)
theorem dJ11_pollFirst_10 : decode cJ11_pollFirst 10 = .ok (.dup, 1) := dk_89 (dk_at dksJ11_pollFirst_0 10 rfl rfl)
theorem dJ11_pollFirst_11 : decode cJ11_pollFirst 11 = .ok (.istore_n 2, 1) := dk_61 (dk_at dksJ11_pollFirst_0 11 rfl rfl)
theorem dJ11_pollFirst_12 : decode cJ11_pollFirst 12 = .ok (.invokestatic 103, 3) := dk_184 0 103 (dk_at dksJ11_pollFirst_0 12 rfl rfl)
theorem dJ11_pollFirst_15 : decode cJ11_pollFirst 15 = .ok (.astore_n 3, 1) := dk_78 (dk_at dksJ11_pollFirst_0 15 rfl rfl)
theorem dJ11_pollFirst_16 : decode cJ11_pollFirst 16 = .ok (.aload_n 3, 1) := dk_45 (dk_at dksJ11_pollFirst_0 16 rfl rfl)
theorem dJ11_pollFirst_17 : decode cJ11_pollFirst 17 = .ok (.ifnull 17, 3) := dk_198 0 17 (dk_at dksJ11_pollFirst_0 17 rfl rfl)
theorem dJ11_pollFirst_20 : decode cJ11_pollFirst 20 = .ok (.aload_n 1, 1) := dk_43 (dk_at dksJ11_pollFirst_0 20 rfl rfl)
theorem dJ11_pollFirst_21 : decode cJ11_pollFirst 21 = .ok (.iload_n 2, 1) := dk_28 (dk_at dksJ11_pollFirst_0 21 rfl rfl)
theorem dJ11_pollFirst_22 : decode cJ11_pollFirst 22 = .ok (.aconst_null, 1) := dk_1 (dk_at dksJ11_pollFirst_0 22 rfl rfl)
theorem dJ11_pollFirst_23 : decode cJ11_pollFirst 23 = .ok (.aastore, 1) := dk_83 (dk_at dksJ11_pollFirst_0 23 rfl rfl)
theorem dJ11_pollFirst_24 : decode cJ11_pollFirst 24 = .ok (.aload_n 0, 1) := dk_42 (dk_at dksJ11_pollFirst_1 0 rfl rfl)
theorem dJ11_pollFirst_25 : decode cJ11_pollFirst 25 = .ok (.iload_n 2, 1) := dk_28 (dk_at dksJ11_pollFirst_1 1 rfl rfl)
theorem dJ11_pollFirst_26 : decode cJ11_pollFirst 26 = .ok (.aload_n 1, 1) := dk_43 (dk_at dksJ11_pollFirst_1 2 rfl rfl)
theorem dJ11_pollFirst_27 : decode cJ11_pollFirst 27 = .ok (.arraylength, 1) := dk_190 (dk_at dksJ11_pollFirst_1 3 rfl rfl)
theorem dJ11_pollFirst_28 : decode cJ11_pollFirst 28 = .ok (.invokestatic 74, 3) := dk_184 0 74 (dk_at dksJ11_pollFirst_1 4 rfl rfl)
theorem dJ11_pollFirst_31 : decode cJ11_pollFirst 31 = .ok (.putfield 24, 3) := dk_181 0 24 (dk_at dksJ11_pollFirst_1 7 rfl rfl)
theorem dJ11_pollFirst_34 : decode cJ11_pollFirst 34 = .ok (.aload_n 3, 1) := dk_45 (dk_at dksJ11_pollFirst_1 10 rfl rfl)
theorem dJ11_pollFirst_35 : decode cJ11_pollFirst 35 = .ok (.areturn, 1) := dk_176 (dk_at dksJ11_pollFirst_1 11 rfl rfl)
abbrev cJ11_elementAt : ByteArray := prog_54_method_10_code
def yJ11_elementAt : MethodName := ⟨RJ11, "elementAt", "([Ljava/lang/Object;I)Ljava/lang/Object;"⟩
def dkwJ11_elementAt_0 : List UInt8 := [42, 27, 50, 176]
abbrev dktJ11_elementAt_0 : List UInt8 := dkwJ11_elementAt_0 ++ []
theorem dksJ11_elementAt_0 : cJ11_elementAt.data.toList.drop 0 = dktJ11_elementAt_0 := by decide +kernel
theorem dJ11_elementAt_0 : decode cJ11_elementAt 0 = .ok (.aload_n 0, 1) := dk_42 (dk_at dksJ11_elementAt_0 0 rfl rfl)
theorem dJ11_elementAt_1 : decode cJ11_elementAt 1 = .ok (.iload_n 1, 1) := dk_27 (dk_at dksJ11_elementAt_0 1 rfl rfl)
theorem dJ11_elementAt_2 : decode cJ11_elementAt 2 = .ok (.aaload, 1) := dk_50 (dk_at dksJ11_elementAt_0 2 rfl rfl)
theorem dJ11_elementAt_3 : decode cJ11_elementAt 3 = .ok (.areturn, 1) := dk_176 (dk_at dksJ11_elementAt_0 3 rfl rfl)
abbrev cJ11_isEmpty : ByteArray := prog_54_method_38_code
def yJ11_isEmpty : MethodName := ⟨RJ11, "isEmpty", "()Z"⟩
def dkwJ11_isEmpty_0 : List UInt8 := [42, 180, 0, 24, 42, 180, 0, 20, 160, 0, 7, 4, 167, 0, 4, 3, 172]
abbrev dktJ11_isEmpty_0 : List UInt8 := dkwJ11_isEmpty_0 ++ []
theorem dksJ11_isEmpty_0 : cJ11_isEmpty.data.toList.drop 0 = dktJ11_isEmpty_0 := by decide +kernel
theorem dJ11_isEmpty_0 : decode cJ11_isEmpty 0 = .ok (.aload_n 0, 1) := dk_42 (dk_at dksJ11_isEmpty_0 0 rfl rfl)
theorem dJ11_isEmpty_1 : decode cJ11_isEmpty 1 = .ok (.getfield 24, 3) := dk_180 0 24 (dk_at dksJ11_isEmpty_0 1 rfl rfl)
theorem dJ11_isEmpty_4 : decode cJ11_isEmpty 4 = .ok (.aload_n 0, 1) := dk_42 (dk_at dksJ11_isEmpty_0 4 rfl rfl)
theorem dJ11_isEmpty_5 : decode cJ11_isEmpty 5 = .ok (.getfield 20, 3) := dk_180 0 20 (dk_at dksJ11_isEmpty_0 5 rfl rfl)
theorem dJ11_isEmpty_8 : decode cJ11_isEmpty 8 = .ok (.if_icmp .ne 7, 3) := dk_160 0 7 (dk_at dksJ11_isEmpty_0 8 rfl rfl)
theorem dJ11_isEmpty_11 : decode cJ11_isEmpty 11 = .ok (.iconst 1, 1) := dk_4 (dk_at dksJ11_isEmpty_0 11 rfl rfl)
theorem dJ11_isEmpty_12 : decode cJ11_isEmpty 12 = .ok (.goto 4, 3) := dk_167 0 4 (dk_at dksJ11_isEmpty_0 12 rfl rfl)
theorem dJ11_isEmpty_15 : decode cJ11_isEmpty 15 = .ok (.iconst 0, 1) := dk_3 (dk_at dksJ11_isEmpty_0 15 rfl rfl)
theorem dJ11_isEmpty_16 : decode cJ11_isEmpty 16 = .ok (.ireturn, 1) := dk_172 (dk_at dksJ11_isEmpty_0 16 rfl rfl)
abbrev cJ11_toArray : ByteArray := prog_54_method_55_code
def yJ11_toArray : MethodName := ⟨RJ11, "toArray", "()[Ljava/lang/Object;"⟩
def dkwJ11_toArray_0 : List UInt8 := [42, 18, 188, 182, 0, 189, 176]
abbrev dktJ11_toArray_0 : List UInt8 := dkwJ11_toArray_0 ++ []
theorem dksJ11_toArray_0 : cJ11_toArray.data.toList.drop 0 = dktJ11_toArray_0 := by decide +kernel
theorem dJ11_toArray_0 : decode cJ11_toArray 0 = .ok (.aload_n 0, 1) := dk_42 (dk_at dksJ11_toArray_0 0 rfl rfl)
theorem dJ11_toArray_1 : decode cJ11_toArray 1 = .ok (.ldc 188, 2) := dk_18 188 (dk_at dksJ11_toArray_0 1 rfl rfl)
theorem dJ11_toArray_3 : decode cJ11_toArray 3 = .ok (.invokevirtual 189, 3) := dk_182 0 189 (dk_at dksJ11_toArray_0 3 rfl rfl)
theorem dJ11_toArray_6 : decode cJ11_toArray 6 = .ok (.areturn, 1) := dk_176 (dk_at dksJ11_toArray_0 6 rfl rfl)
abbrev cJ11_toArray_2 : ByteArray := prog_54_method_56_code
def yJ11_toArray_2 : MethodName := ⟨RJ11, "toArray", "(Ljava/lang/Class;)[Ljava/lang/Object;"⟩
def dkwJ11_toArray_2_4 : List UInt8 := [21, 5, 184, 0, 27, 45, 176]
abbrev dktJ11_toArray_2_4 : List UInt8 := dkwJ11_toArray_2_4 ++ []
def dkwJ11_toArray_2_3 : List UInt8 := [44, 190, 21, 4, 100, 184, 0, 27, 21, 6, 21, 5, 159, 0, 16, 44, 3, 45, 44, 190, 21, 4, 100]
abbrev dktJ11_toArray_2_3 : List UInt8 := dkwJ11_toArray_2_3 ++ dktJ11_toArray_2_4
def dkwJ11_toArray_2_2 : List UInt8 := [184, 0, 193, 78, 167, 0, 28, 44, 3, 21, 6, 21, 4, 100, 43, 184, 0, 193, 78, 44, 21, 4, 45, 3]
abbrev dktJ11_toArray_2_2 : List UInt8 := dkwJ11_toArray_2_2 ++ dktJ11_toArray_2_3
def dkwJ11_toArray_2_1 : List UInt8 := [163, 0, 7, 3, 167, 0, 5, 44, 190, 96, 89, 54, 6, 155, 0, 16, 44, 21, 4, 21, 6, 43]
abbrev dktJ11_toArray_2_1 : List UInt8 := dkwJ11_toArray_2_1 ++ dktJ11_toArray_2_2
def dkwJ11_toArray_2_0 : List UInt8 := [42, 180, 0, 3, 77, 42, 180, 0, 24, 54, 4, 42, 180, 0, 20, 54, 5, 21, 5, 21, 4, 21, 5]
abbrev dktJ11_toArray_2_0 : List UInt8 := dkwJ11_toArray_2_0 ++ dktJ11_toArray_2_1
theorem dksJ11_toArray_2_0 : cJ11_toArray_2.data.toList.drop 0 = dktJ11_toArray_2_0 := by decide +kernel
theorem dksJ11_toArray_2_1 : cJ11_toArray_2.data.toList.drop 23 = dktJ11_toArray_2_1 := dk_seg dksJ11_toArray_2_0 23 rfl rfl
theorem dksJ11_toArray_2_2 : cJ11_toArray_2.data.toList.drop 45 = dktJ11_toArray_2_2 := dk_seg dksJ11_toArray_2_1 22 rfl rfl
theorem dksJ11_toArray_2_3 : cJ11_toArray_2.data.toList.drop 69 = dktJ11_toArray_2_3 := dk_seg dksJ11_toArray_2_2 24 rfl rfl
theorem dksJ11_toArray_2_4 : cJ11_toArray_2.data.toList.drop 92 = dktJ11_toArray_2_4 := dk_seg dksJ11_toArray_2_3 23 rfl rfl
theorem dJ11_toArray_2_0 : decode cJ11_toArray_2 0 = .ok (.aload_n 0, 1) := dk_42 (dk_at dksJ11_toArray_2_0 0 rfl rfl)
theorem dJ11_toArray_2_1 : decode cJ11_toArray_2 1 = .ok (.getfield 3, 3) := dk_180 0 3 (dk_at dksJ11_toArray_2_0 1 rfl rfl)
theorem dJ11_toArray_2_4 : decode cJ11_toArray_2 4 = .ok (.astore_n 2, 1) := dk_77 (dk_at dksJ11_toArray_2_0 4 rfl rfl)
theorem dJ11_toArray_2_5 : decode cJ11_toArray_2 5 = .ok (.aload_n 0, 1) := dk_42 (dk_at dksJ11_toArray_2_0 5 rfl rfl)
theorem dJ11_toArray_2_6 : decode cJ11_toArray_2 6 = .ok (.getfield 24, 3) := dk_180 0 24 (dk_at dksJ11_toArray_2_0 6 rfl rfl)
theorem dJ11_toArray_2_9 : decode cJ11_toArray_2 9 = .ok (.istore 4, 2) := dk_54 4 (dk_at dksJ11_toArray_2_0 9 rfl rfl)
theorem dJ11_toArray_2_11 : decode cJ11_toArray_2 11 = .ok (.aload_n 0, 1) := dk_42 (dk_at dksJ11_toArray_2_0 11 rfl rfl)
theorem dJ11_toArray_2_12 : decode cJ11_toArray_2 12 = .ok (.getfield 20, 3) := dk_180 0 20 (dk_at dksJ11_toArray_2_0 12 rfl rfl)
theorem dJ11_toArray_2_15 : decode cJ11_toArray_2 15 = .ok (.istore 5, 2) := dk_54 5 (dk_at dksJ11_toArray_2_0 15 rfl rfl)
theorem dJ11_toArray_2_17 : decode cJ11_toArray_2 17 = .ok (.iload 5, 2) := dk_21 5 (dk_at dksJ11_toArray_2_0 17 rfl rfl)
theorem dJ11_toArray_2_19 : decode cJ11_toArray_2 19 = .ok (.iload 4, 2) := dk_21 4 (dk_at dksJ11_toArray_2_0 19 rfl rfl)
theorem dJ11_toArray_2_21 : decode cJ11_toArray_2 21 = .ok (.iload 5, 2) := dk_21 5 (dk_at dksJ11_toArray_2_0 21 rfl rfl)
theorem dJ11_toArray_2_23 : decode cJ11_toArray_2 23 = .ok (.if_icmp .gt 7, 3) := dk_163 0 7 (dk_at dksJ11_toArray_2_1 0 rfl rfl)
theorem dJ11_toArray_2_26 : decode cJ11_toArray_2 26 = .ok (.iconst 0, 1) := dk_3 (dk_at dksJ11_toArray_2_1 3 rfl rfl)
theorem dJ11_toArray_2_27 : decode cJ11_toArray_2 27 = .ok (.goto 5, 3) := dk_167 0 5 (dk_at dksJ11_toArray_2_1 4 rfl rfl)
theorem dJ11_toArray_2_30 : decode cJ11_toArray_2 30 = .ok (.aload_n 2, 1) := dk_44 (dk_at dksJ11_toArray_2_1 7 rfl rfl)
theorem dJ11_toArray_2_31 : decode cJ11_toArray_2 31 = .ok (.arraylength, 1) := dk_190 (dk_at dksJ11_toArray_2_1 8 rfl rfl)
theorem dJ11_toArray_2_32 : decode cJ11_toArray_2 32 = .ok (.iadd, 1) := dk_96 (dk_at dksJ11_toArray_2_1 9 rfl rfl)
theorem dJ11_toArray_2_33 : decode cJ11_toArray_2 33 = .ok (.dup, 1) := dk_89 (dk_at dksJ11_toArray_2_1 10 rfl rfl)
theorem dJ11_toArray_2_34 : decode cJ11_toArray_2 34 = .ok (.istore 6, 2) := dk_54 6 (dk_at dksJ11_toArray_2_1 11 rfl rfl)
theorem dJ11_toArray_2_36 : decode cJ11_toArray_2 36 = .ok (.ifCond .lt 16, 3) := dk_155 0 16 (dk_at dksJ11_toArray_2_1 13 rfl rfl)
theorem dJ11_toArray_2_39 : decode cJ11_toArray_2 39 = .ok (.aload_n 2, 1) := dk_44 (dk_at dksJ11_toArray_2_1 16 rfl rfl)
theorem dJ11_toArray_2_40 : decode cJ11_toArray_2 40 = .ok (.iload 4, 2) := dk_21 4 (dk_at dksJ11_toArray_2_1 17 rfl rfl)
theorem dJ11_toArray_2_42 : decode cJ11_toArray_2 42 = .ok (.iload 6, 2) := dk_21 6 (dk_at dksJ11_toArray_2_1 19 rfl rfl)
theorem dJ11_toArray_2_44 : decode cJ11_toArray_2 44 = .ok (.aload_n 1, 1) := dk_43 (dk_at dksJ11_toArray_2_1 21 rfl rfl)
theorem dJ11_toArray_2_45 : decode cJ11_toArray_2 45 = .ok (.invokestatic 193, 3) := dk_184 0 193 (dk_at dksJ11_toArray_2_2 0 rfl rfl)
theorem dJ11_toArray_2_48 : decode cJ11_toArray_2 48 = .ok (.astore_n 3, 1) := dk_78 (dk_at dksJ11_toArray_2_2 3 rfl rfl)
theorem dJ11_toArray_2_49 : decode cJ11_toArray_2 49 = .ok (.goto 28, 3) := dk_167 0 28 (dk_at dksJ11_toArray_2_2 4 rfl rfl)
theorem dJ11_toArray_2_52 : decode cJ11_toArray_2 52 = .ok (.aload_n 2, 1) := dk_44 (dk_at dksJ11_toArray_2_2 7 rfl rfl)
theorem dJ11_toArray_2_53 : decode cJ11_toArray_2 53 = .ok (.iconst 0, 1) := dk_3 (dk_at dksJ11_toArray_2_2 8 rfl rfl)
theorem dJ11_toArray_2_54 : decode cJ11_toArray_2 54 = .ok (.iload 6, 2) := dk_21 6 (dk_at dksJ11_toArray_2_2 9 rfl rfl)
theorem dJ11_toArray_2_56 : decode cJ11_toArray_2 56 = .ok (.iload 4, 2) := dk_21 4 (dk_at dksJ11_toArray_2_2 11 rfl rfl)
theorem dJ11_toArray_2_58 : decode cJ11_toArray_2 58 = .ok (.isub, 1) := dk_100 (dk_at dksJ11_toArray_2_2 13 rfl rfl)
theorem dJ11_toArray_2_59 : decode cJ11_toArray_2 59 = .ok (.aload_n 1, 1) := dk_43 (dk_at dksJ11_toArray_2_2 14 rfl rfl)
theorem dJ11_toArray_2_60 : decode cJ11_toArray_2 60 = .ok (.invokestatic 193, 3) := dk_184 0 193 (dk_at dksJ11_toArray_2_2 15 rfl rfl)
theorem dJ11_toArray_2_63 : decode cJ11_toArray_2 63 = .ok (.astore_n 3, 1) := dk_78 (dk_at dksJ11_toArray_2_2 18 rfl rfl)
theorem dJ11_toArray_2_64 : decode cJ11_toArray_2 64 = .ok (.aload_n 2, 1) := dk_44 (dk_at dksJ11_toArray_2_2 19 rfl rfl)
theorem dJ11_toArray_2_65 : decode cJ11_toArray_2 65 = .ok (.iload 4, 2) := dk_21 4 (dk_at dksJ11_toArray_2_2 20 rfl rfl)
theorem dJ11_toArray_2_67 : decode cJ11_toArray_2 67 = .ok (.aload_n 3, 1) := dk_45 (dk_at dksJ11_toArray_2_2 22 rfl rfl)
theorem dJ11_toArray_2_68 : decode cJ11_toArray_2 68 = .ok (.iconst 0, 1) := dk_3 (dk_at dksJ11_toArray_2_2 23 rfl rfl)
theorem dJ11_toArray_2_69 : decode cJ11_toArray_2 69 = .ok (.aload_n 2, 1) := dk_44 (dk_at dksJ11_toArray_2_3 0 rfl rfl)
theorem dJ11_toArray_2_70 : decode cJ11_toArray_2 70 = .ok (.arraylength, 1) := dk_190 (dk_at dksJ11_toArray_2_3 1 rfl rfl)
theorem dJ11_toArray_2_71 : decode cJ11_toArray_2 71 = .ok (.iload 4, 2) := dk_21 4 (dk_at dksJ11_toArray_2_3 2 rfl rfl)
theorem dJ11_toArray_2_73 : decode cJ11_toArray_2 73 = .ok (.isub, 1) := dk_100 (dk_at dksJ11_toArray_2_3 4 rfl rfl)
theorem dJ11_toArray_2_74 : decode cJ11_toArray_2 74 = .ok (.invokestatic 27, 3) := dk_184 0 27 (dk_at dksJ11_toArray_2_3 5 rfl rfl)
theorem dJ11_toArray_2_77 : decode cJ11_toArray_2 77 = .ok (.iload 6, 2) := dk_21 6 (dk_at dksJ11_toArray_2_3 8 rfl rfl)
theorem dJ11_toArray_2_79 : decode cJ11_toArray_2 79 = .ok (.iload 5, 2) := dk_21 5 (dk_at dksJ11_toArray_2_3 10 rfl rfl)
theorem dJ11_toArray_2_81 : decode cJ11_toArray_2 81 = .ok (.if_icmp .eq 16, 3) := dk_159 0 16 (dk_at dksJ11_toArray_2_3 12 rfl rfl)
theorem dJ11_toArray_2_84 : decode cJ11_toArray_2 84 = .ok (.aload_n 2, 1) := dk_44 (dk_at dksJ11_toArray_2_3 15 rfl rfl)
theorem dJ11_toArray_2_85 : decode cJ11_toArray_2 85 = .ok (.iconst 0, 1) := dk_3 (dk_at dksJ11_toArray_2_3 16 rfl rfl)
theorem dJ11_toArray_2_86 : decode cJ11_toArray_2 86 = .ok (.aload_n 3, 1) := dk_45 (dk_at dksJ11_toArray_2_3 17 rfl rfl)
theorem dJ11_toArray_2_87 : decode cJ11_toArray_2 87 = .ok (.aload_n 2, 1) := dk_44 (dk_at dksJ11_toArray_2_3 18 rfl rfl)
theorem dJ11_toArray_2_88 : decode cJ11_toArray_2 88 = .ok (.arraylength, 1) := dk_190 (dk_at dksJ11_toArray_2_3 19 rfl rfl)
theorem dJ11_toArray_2_89 : decode cJ11_toArray_2 89 = .ok (.iload 4, 2) := dk_21 4 (dk_at dksJ11_toArray_2_3 20 rfl rfl)
theorem dJ11_toArray_2_91 : decode cJ11_toArray_2 91 = .ok (.isub, 1) := dk_100 (dk_at dksJ11_toArray_2_3 22 rfl rfl)
theorem dJ11_toArray_2_92 : decode cJ11_toArray_2 92 = .ok (.iload 5, 2) := dk_21 5 (dk_at dksJ11_toArray_2_4 0 rfl rfl)
theorem dJ11_toArray_2_94 : decode cJ11_toArray_2 94 = .ok (.invokestatic 27, 3) := dk_184 0 27 (dk_at dksJ11_toArray_2_4 2 rfl rfl)
theorem dJ11_toArray_2_97 : decode cJ11_toArray_2 97 = .ok (.aload_n 3, 1) := dk_45 (dk_at dksJ11_toArray_2_4 5 rfl rfl)
theorem dJ11_toArray_2_98 : decode cJ11_toArray_2 98 = .ok (.areturn, 1) := dk_176 (dk_at dksJ11_toArray_2_4 6 rfl rfl)
abbrev cJ11_size : ByteArray := prog_54_method_37_code
def yJ11_size : MethodName := ⟨RJ11, "size", "()I"⟩
def dkwJ11_size_0 : List UInt8 := [42, 180, 0, 20, 42, 180, 0, 24, 42, 180, 0, 3, 190, 184, 0, 127, 172]
abbrev dktJ11_size_0 : List UInt8 := dkwJ11_size_0 ++ []
theorem dksJ11_size_0 : cJ11_size.data.toList.drop 0 = dktJ11_size_0 := by decide +kernel
theorem dJ11_size_0 : decode cJ11_size 0 = .ok (.aload_n 0, 1) := dk_42 (dk_at dksJ11_size_0 0 rfl rfl)
theorem dJ11_size_1 : decode cJ11_size 1 = .ok (.getfield 20, 3) := dk_180 0 20 (dk_at dksJ11_size_0 1 rfl rfl)
theorem dJ11_size_4 : decode cJ11_size 4 = .ok (.aload_n 0, 1) := dk_42 (dk_at dksJ11_size_0 4 rfl rfl)
theorem dJ11_size_5 : decode cJ11_size 5 = .ok (.getfield 24, 3) := dk_180 0 24 (dk_at dksJ11_size_0 5 rfl rfl)
theorem dJ11_size_8 : decode cJ11_size 8 = .ok (.aload_n 0, 1) := dk_42 (dk_at dksJ11_size_0 8 rfl rfl)
theorem dJ11_size_9 : decode cJ11_size 9 = .ok (.getfield 3, 3) := dk_180 0 3 (dk_at dksJ11_size_0 9 rfl rfl)
theorem dJ11_size_12 : decode cJ11_size 12 = .ok (.arraylength, 1) := dk_190 (dk_at dksJ11_size_0 12 rfl rfl)
theorem dJ11_size_13 : decode cJ11_size 13 = .ok (.invokestatic 127, 3) := dk_184 0 127 (dk_at dksJ11_size_0 13 rfl rfl)
theorem dJ11_size_16 : decode cJ11_size 16 = .ok (.ireturn, 1) := dk_172 (dk_at dksJ11_size_0 16 rfl rfl)
abbrev cJ11_sub : ByteArray := prog_54_method_9_code
def yJ11_sub : MethodName := ⟨RJ11, "sub", "(III)I"⟩
def dkwJ11_sub_0 : List UInt8 := [26, 27, 100, 89, 59, 156, 0, 7, 26, 28, 96, 59, 26, 172]
abbrev dktJ11_sub_0 : List UInt8 := dkwJ11_sub_0 ++ []
theorem dksJ11_sub_0 : cJ11_sub.data.toList.drop 0 = dktJ11_sub_0 := by decide +kernel
theorem dJ11_sub_0 : decode cJ11_sub 0 = .ok (.iload_n 0, 1) := dk_26 (dk_at dksJ11_sub_0 0 rfl rfl)
theorem dJ11_sub_1 : decode cJ11_sub 1 = .ok (.iload_n 1, 1) := dk_27 (dk_at dksJ11_sub_0 1 rfl rfl)
theorem dJ11_sub_2 : decode cJ11_sub 2 = .ok (.isub, 1) := dk_100 (dk_at dksJ11_sub_0 2 rfl rfl)
theorem dJ11_sub_3 : decode cJ11_sub 3 = .ok (.dup, 1) := dk_89 (dk_at dksJ11_sub_0 3 rfl rfl)
theorem dJ11_sub_4 : decode cJ11_sub 4 = .ok (.istore_n 0, 1) := dk_59 (dk_at dksJ11_sub_0 4 rfl rfl)
theorem dJ11_sub_5 : decode cJ11_sub 5 = .ok (.ifCond .ge 7, 3) := dk_156 0 7 (dk_at dksJ11_sub_0 5 rfl rfl)
theorem dJ11_sub_8 : decode cJ11_sub 8 = .ok (.iload_n 0, 1) := dk_26 (dk_at dksJ11_sub_0 8 rfl rfl)
theorem dJ11_sub_9 : decode cJ11_sub 9 = .ok (.iload_n 2, 1) := dk_28 (dk_at dksJ11_sub_0 9 rfl rfl)
theorem dJ11_sub_10 : decode cJ11_sub 10 = .ok (.iadd, 1) := dk_96 (dk_at dksJ11_sub_0 10 rfl rfl)
theorem dJ11_sub_11 : decode cJ11_sub 11 = .ok (.istore_n 0, 1) := dk_59 (dk_at dksJ11_sub_0 11 rfl rfl)
theorem dJ11_sub_12 : decode cJ11_sub 12 = .ok (.iload_n 0, 1) := dk_26 (dk_at dksJ11_sub_0 12 rfl rfl)
theorem dJ11_sub_13 : decode cJ11_sub 13 = .ok (.ireturn, 1) := dk_172 (dk_at dksJ11_sub_0 13 rfl rfl)
abbrev cJ11_iterator : ByteArray := prog_54_method_39_code
def yJ11_iterator : MethodName := ⟨RJ11, "iterator", "()Ljava/util/Iterator;"⟩
def dkwJ11_iterator_0 : List UInt8 := [187, 0, 131, 89, 42, 183, 0, 133, 176]
abbrev dktJ11_iterator_0 : List UInt8 := dkwJ11_iterator_0 ++ []
theorem dksJ11_iterator_0 : cJ11_iterator.data.toList.drop 0 = dktJ11_iterator_0 := by decide +kernel
theorem dJ11_iterator_0 : decode cJ11_iterator 0 = .ok (.new 131, 3) := dk_187 0 131 (dk_at dksJ11_iterator_0 0 rfl rfl)
theorem dJ11_iterator_3 : decode cJ11_iterator 3 = .ok (.dup, 1) := dk_89 (dk_at dksJ11_iterator_0 3 rfl rfl)
theorem dJ11_iterator_4 : decode cJ11_iterator 4 = .ok (.aload_n 0, 1) := dk_42 (dk_at dksJ11_iterator_0 4 rfl rfl)
theorem dJ11_iterator_5 : decode cJ11_iterator 5 = .ok (.invokespecial 133, 3) := dk_183 0 133 (dk_at dksJ11_iterator_0 5 rfl rfl)
theorem dJ11_iterator_8 : decode cJ11_iterator 8 = .ok (.areturn, 1) := dk_176 (dk_at dksJ11_iterator_0 8 rfl rfl)
abbrev cJ11_removeFirst : ByteArray := prog_54_method_18_code
def yJ11_removeFirst : MethodName := ⟨RJ11, "removeFirst", "()Ljava/lang/Object;"⟩
def dkwJ11_removeFirst_0 : List UInt8 := [42, 182, 0, 93, 76, 43, 199, 0, 11, 187, 0, 97, 89, 183, 0, 99, 191, 43, 176]
abbrev dktJ11_removeFirst_0 : List UInt8 := dkwJ11_removeFirst_0 ++ []
theorem dksJ11_removeFirst_0 : cJ11_removeFirst.data.toList.drop 0 = dktJ11_removeFirst_0 := by decide +kernel
theorem dJ11_removeFirst_0 : decode cJ11_removeFirst 0 = .ok (.aload_n 0, 1) := dk_42 (dk_at dksJ11_removeFirst_0 0 rfl rfl)
theorem dJ11_removeFirst_1 : decode cJ11_removeFirst 1 = .ok (.invokevirtual 93, 3) := dk_182 0 93 (dk_at dksJ11_removeFirst_0 1 rfl rfl)
theorem dJ11_removeFirst_4 : decode cJ11_removeFirst 4 = .ok (.astore_n 1, 1) := dk_76 (dk_at dksJ11_removeFirst_0 4 rfl rfl)
theorem dJ11_removeFirst_5 : decode cJ11_removeFirst 5 = .ok (.aload_n 1, 1) := dk_43 (dk_at dksJ11_removeFirst_0 5 rfl rfl)
theorem dJ11_removeFirst_6 : decode cJ11_removeFirst 6 = .ok (.ifnonnull 11, 3) := dk_199 0 11 (dk_at dksJ11_removeFirst_0 6 rfl rfl)
theorem dJ11_removeFirst_9 : decode cJ11_removeFirst 9 = .ok (.new 97, 3) := dk_187 0 97 (dk_at dksJ11_removeFirst_0 9 rfl rfl)
theorem dJ11_removeFirst_12 : decode cJ11_removeFirst 12 = .ok (.dup, 1) := dk_89 (dk_at dksJ11_removeFirst_0 12 rfl rfl)
theorem dJ11_removeFirst_13 : decode cJ11_removeFirst 13 = .ok (.invokespecial 99, 3) := dk_183 0 99 (dk_at dksJ11_removeFirst_0 13 rfl rfl)
theorem dJ11_removeFirst_16 : decode cJ11_removeFirst 16 = .ok (.athrow, 1) := dk_191 (dk_at dksJ11_removeFirst_0 16 rfl rfl)
theorem dJ11_removeFirst_17 : decode cJ11_removeFirst 17 = .ok (.aload_n 1, 1) := dk_43 (dk_at dksJ11_removeFirst_0 17 rfl rfl)
theorem dJ11_removeFirst_18 : decode cJ11_removeFirst 18 = .ok (.areturn, 1) := dk_176 (dk_at dksJ11_removeFirst_0 18 rfl rfl)
abbrev cJ11_addLast : ByteArray := prog_54_method_13_code
def yJ11_addLast : MethodName := ⟨RJ11, "addLast", "(Ljava/lang/Object;)V"⟩
def dkwJ11_addLast_2 : List UInt8 := [182, 0, 71, 177]
abbrev dktJ11_addLast_2 : List UInt8 := dkwJ11_addLast_2 ++ []
def dkwJ11_addLast_1 : List UInt8 := [42, 180, 0, 24, 42, 42, 180, 0, 20, 44, 190, 184, 0, 74, 90, 181, 0, 20, 160, 0, 8, 42, 4]
abbrev dktJ11_addLast_1 : List UInt8 := dkwJ11_addLast_1 ++ dktJ11_addLast_2
def dkwJ11_addLast_0 : List UInt8 := [43, 199, 0, 11, 187, 0, 65, 89, 183, 0, 67, 191, 42, 180, 0, 3, 77, 44, 42, 180, 0, 20, 43, 83]
abbrev dktJ11_addLast_0 : List UInt8 := dkwJ11_addLast_0 ++ dktJ11_addLast_1
theorem dksJ11_addLast_0 : cJ11_addLast.data.toList.drop 0 = dktJ11_addLast_0 := by decide +kernel
theorem dksJ11_addLast_1 : cJ11_addLast.data.toList.drop 24 = dktJ11_addLast_1 := dk_seg dksJ11_addLast_0 24 rfl rfl
theorem dksJ11_addLast_2 : cJ11_addLast.data.toList.drop 47 = dktJ11_addLast_2 := dk_seg dksJ11_addLast_1 23 rfl rfl
theorem dJ11_addLast_0 : decode cJ11_addLast 0 = .ok (.aload_n 1, 1) := dk_43 (dk_at dksJ11_addLast_0 0 rfl rfl)
theorem dJ11_addLast_1 : decode cJ11_addLast 1 = .ok (.ifnonnull 11, 3) := dk_199 0 11 (dk_at dksJ11_addLast_0 1 rfl rfl)
theorem dJ11_addLast_4 : decode cJ11_addLast 4 = .ok (.new 65, 3) := dk_187 0 65 (dk_at dksJ11_addLast_0 4 rfl rfl)
theorem dJ11_addLast_7 : decode cJ11_addLast 7 = .ok (.dup, 1) := dk_89 (dk_at dksJ11_addLast_0 7 rfl rfl)
theorem dJ11_addLast_8 : decode cJ11_addLast 8 = .ok (.invokespecial 67, 3) := dk_183 0 67 (dk_at dksJ11_addLast_0 8 rfl rfl)
theorem dJ11_addLast_11 : decode cJ11_addLast 11 = .ok (.athrow, 1) := dk_191 (dk_at dksJ11_addLast_0 11 rfl rfl)
theorem dJ11_addLast_12 : decode cJ11_addLast 12 = .ok (.aload_n 0, 1) := dk_42 (dk_at dksJ11_addLast_0 12 rfl rfl)
theorem dJ11_addLast_13 : decode cJ11_addLast 13 = .ok (.getfield 3, 3) := dk_180 0 3 (dk_at dksJ11_addLast_0 13 rfl rfl)
theorem dJ11_addLast_16 : decode cJ11_addLast 16 = .ok (.astore_n 2, 1) := dk_77 (dk_at dksJ11_addLast_0 16 rfl rfl)
theorem dJ11_addLast_17 : decode cJ11_addLast 17 = .ok (.aload_n 2, 1) := dk_44 (dk_at dksJ11_addLast_0 17 rfl rfl)
theorem dJ11_addLast_18 : decode cJ11_addLast 18 = .ok (.aload_n 0, 1) := dk_42 (dk_at dksJ11_addLast_0 18 rfl rfl)
theorem dJ11_addLast_19 : decode cJ11_addLast 19 = .ok (.getfield 20, 3) := dk_180 0 20 (dk_at dksJ11_addLast_0 19 rfl rfl)
theorem dJ11_addLast_22 : decode cJ11_addLast 22 = .ok (.aload_n 1, 1) := dk_43 (dk_at dksJ11_addLast_0 22 rfl rfl)
theorem dJ11_addLast_23 : decode cJ11_addLast 23 = .ok (.aastore, 1) := dk_83 (dk_at dksJ11_addLast_0 23 rfl rfl)
theorem dJ11_addLast_24 : decode cJ11_addLast 24 = .ok (.aload_n 0, 1) := dk_42 (dk_at dksJ11_addLast_1 0 rfl rfl)
theorem dJ11_addLast_25 : decode cJ11_addLast 25 = .ok (.getfield 24, 3) := dk_180 0 24 (dk_at dksJ11_addLast_1 1 rfl rfl)
theorem dJ11_addLast_28 : decode cJ11_addLast 28 = .ok (.aload_n 0, 1) := dk_42 (dk_at dksJ11_addLast_1 4 rfl rfl)
theorem dJ11_addLast_29 : decode cJ11_addLast 29 = .ok (.aload_n 0, 1) := dk_42 (dk_at dksJ11_addLast_1 5 rfl rfl)
theorem dJ11_addLast_30 : decode cJ11_addLast 30 = .ok (.getfield 20, 3) := dk_180 0 20 (dk_at dksJ11_addLast_1 6 rfl rfl)
theorem dJ11_addLast_33 : decode cJ11_addLast 33 = .ok (.aload_n 2, 1) := dk_44 (dk_at dksJ11_addLast_1 9 rfl rfl)
theorem dJ11_addLast_34 : decode cJ11_addLast 34 = .ok (.arraylength, 1) := dk_190 (dk_at dksJ11_addLast_1 10 rfl rfl)
theorem dJ11_addLast_35 : decode cJ11_addLast 35 = .ok (.invokestatic 74, 3) := dk_184 0 74 (dk_at dksJ11_addLast_1 11 rfl rfl)
theorem dJ11_addLast_38 : decode cJ11_addLast 38 = .ok (.dup_x1, 1) := dk_90 (dk_at dksJ11_addLast_1 14 rfl rfl)
theorem dJ11_addLast_39 : decode cJ11_addLast 39 = .ok (.putfield 20, 3) := dk_181 0 20 (dk_at dksJ11_addLast_1 15 rfl rfl)
theorem dJ11_addLast_42 : decode cJ11_addLast 42 = .ok (.if_icmp .ne 8, 3) := dk_160 0 8 (dk_at dksJ11_addLast_1 18 rfl rfl)
theorem dJ11_addLast_45 : decode cJ11_addLast 45 = .ok (.aload_n 0, 1) := dk_42 (dk_at dksJ11_addLast_1 21 rfl rfl)
theorem dJ11_addLast_46 : decode cJ11_addLast 46 = .ok (.iconst 1, 1) := dk_4 (dk_at dksJ11_addLast_1 22 rfl rfl)
theorem dJ11_addLast_47 : decode cJ11_addLast 47 = .ok (.invokevirtual 71, 3) := dk_182 0 71 (dk_at dksJ11_addLast_2 0 rfl rfl)
theorem dJ11_addLast_50 : decode cJ11_addLast 50 = .ok (.return_, 1) := dk_177 (dk_at dksJ11_addLast_2 3 rfl rfl)
abbrev cJ11_grow : ByteArray := prog_54_method_1_code
def yJ11_grow : MethodName := ⟨RJ11, "grow", "(I)V"⟩
def dkwJ11_grow_7 : List UInt8 := [177]
abbrev dktJ11_grow_7 : List UInt8 := dkwJ11_grow_7 ++ []
def dkwJ11_grow_6 : List UInt8 := [181, 0, 24, 54, 8, 21, 7, 21, 8, 162, 0, 15, 25, 5, 21, 7, 1, 83, 132, 7, 1, 167, 255, 240]
abbrev dktJ11_grow_6 : List UInt8 := dkwJ11_grow_6 ++ dktJ11_grow_7
def dkwJ11_grow_5 : List UInt8 := [42, 180, 0, 24, 100, 184, 0, 27, 42, 180, 0, 24, 54, 7, 42, 89, 180, 0, 24, 21, 6, 96, 90]
abbrev dktJ11_grow_5 : List UInt8 := dkwJ11_grow_5 ++ dktJ11_grow_6
def dkwJ11_grow_4 : List UInt8 := [198, 0, 71, 29, 28, 100, 54, 6, 25, 5, 42, 180, 0, 24, 25, 5, 42, 180, 0, 24, 21, 6, 96, 28]
abbrev dktJ11_grow_4 : List UInt8 := dkwJ11_grow_4 ++ dktJ11_grow_5
def dkwJ11_grow_3 : List UInt8 := [180, 0, 24, 161, 0, 24, 42, 180, 0, 20, 42, 180, 0, 24, 160, 0, 81, 25, 5, 42, 180, 0, 24, 50]
abbrev dktJ11_grow_3 : List UInt8 := dkwJ11_grow_3 ++ dktJ11_grow_4
def dkwJ11_grow_2 : List UInt8 := [182, 0, 10, 62, 42, 42, 180, 0, 3, 29, 184, 0, 14, 90, 181, 0, 3, 58, 5, 42, 180, 0, 20, 42]
abbrev dktJ11_grow_2 : List UInt8 := dkwJ11_grow_2 ++ dktJ11_grow_3
def dkwJ11_grow_1 : List UInt8 := [21, 4, 27, 161, 0, 15, 28, 21, 4, 96, 89, 62, 18, 9, 100, 158, 0, 11, 42, 27, 21, 4]
abbrev dktJ11_grow_1 : List UInt8 := dkwJ11_grow_1 ++ dktJ11_grow_2
def dkwJ11_grow_0 : List UInt8 := [42, 180, 0, 3, 190, 61, 28, 16, 64, 162, 0, 9, 28, 5, 96, 167, 0, 6, 28, 4, 122, 54, 4]
abbrev dktJ11_grow_0 : List UInt8 := dkwJ11_grow_0 ++ dktJ11_grow_1
theorem dksJ11_grow_0 : cJ11_grow.data.toList.drop 0 = dktJ11_grow_0 := by decide +kernel
theorem dksJ11_grow_1 : cJ11_grow.data.toList.drop 23 = dktJ11_grow_1 := dk_seg dksJ11_grow_0 23 rfl rfl
theorem dksJ11_grow_2 : cJ11_grow.data.toList.drop 45 = dktJ11_grow_2 := dk_seg dksJ11_grow_1 22 rfl rfl
theorem dksJ11_grow_3 : cJ11_grow.data.toList.drop 69 = dktJ11_grow_3 := dk_seg dksJ11_grow_2 24 rfl rfl
theorem dksJ11_grow_4 : cJ11_grow.data.toList.drop 93 = dktJ11_grow_4 := dk_seg dksJ11_grow_3 24 rfl rfl
theorem dksJ11_grow_5 : cJ11_grow.data.toList.drop 117 = dktJ11_grow_5 := dk_seg dksJ11_grow_4 24 rfl rfl
theorem dksJ11_grow_6 : cJ11_grow.data.toList.drop 140 = dktJ11_grow_6 := dk_seg dksJ11_grow_5 23 rfl rfl
theorem dksJ11_grow_7 : cJ11_grow.data.toList.drop 164 = dktJ11_grow_7 := dk_seg dksJ11_grow_6 24 rfl rfl
theorem dJ11_grow_0 : decode cJ11_grow 0 = .ok (.aload_n 0, 1) := dk_42 (dk_at dksJ11_grow_0 0 rfl rfl)
theorem dJ11_grow_1 : decode cJ11_grow 1 = .ok (.getfield 3, 3) := dk_180 0 3 (dk_at dksJ11_grow_0 1 rfl rfl)
theorem dJ11_grow_4 : decode cJ11_grow 4 = .ok (.arraylength, 1) := dk_190 (dk_at dksJ11_grow_0 4 rfl rfl)
theorem dJ11_grow_5 : decode cJ11_grow 5 = .ok (.istore_n 2, 1) := dk_61 (dk_at dksJ11_grow_0 5 rfl rfl)
theorem dJ11_grow_6 : decode cJ11_grow 6 = .ok (.iload_n 2, 1) := dk_28 (dk_at dksJ11_grow_0 6 rfl rfl)
theorem dJ11_grow_7 : decode cJ11_grow 7 = .ok (.bipush 64, 2) := dk_16 64 (dk_at dksJ11_grow_0 7 rfl rfl)
theorem dJ11_grow_9 : decode cJ11_grow 9 = .ok (.if_icmp .ge 9, 3) := dk_162 0 9 (dk_at dksJ11_grow_0 9 rfl rfl)
theorem dJ11_grow_12 : decode cJ11_grow 12 = .ok (.iload_n 2, 1) := dk_28 (dk_at dksJ11_grow_0 12 rfl rfl)
theorem dJ11_grow_13 : decode cJ11_grow 13 = .ok (.iconst 2, 1) := dk_5 (dk_at dksJ11_grow_0 13 rfl rfl)
theorem dJ11_grow_14 : decode cJ11_grow 14 = .ok (.iadd, 1) := dk_96 (dk_at dksJ11_grow_0 14 rfl rfl)
theorem dJ11_grow_15 : decode cJ11_grow 15 = .ok (.goto 6, 3) := dk_167 0 6 (dk_at dksJ11_grow_0 15 rfl rfl)
theorem dJ11_grow_18 : decode cJ11_grow 18 = .ok (.iload_n 2, 1) := dk_28 (dk_at dksJ11_grow_0 18 rfl rfl)
theorem dJ11_grow_19 : decode cJ11_grow 19 = .ok (.iconst 1, 1) := dk_4 (dk_at dksJ11_grow_0 19 rfl rfl)
theorem dJ11_grow_20 : decode cJ11_grow 20 = .ok (.ishr, 1) := dk_122 (dk_at dksJ11_grow_0 20 rfl rfl)
theorem dJ11_grow_21 : decode cJ11_grow 21 = .ok (.istore 4, 2) := dk_54 4 (dk_at dksJ11_grow_0 21 rfl rfl)
theorem dJ11_grow_23 : decode cJ11_grow 23 = .ok (.iload 4, 2) := dk_21 4 (dk_at dksJ11_grow_1 0 rfl rfl)
theorem dJ11_grow_25 : decode cJ11_grow 25 = .ok (.iload_n 1, 1) := dk_27 (dk_at dksJ11_grow_1 2 rfl rfl)
theorem dJ11_grow_26 : decode cJ11_grow 26 = .ok (.if_icmp .lt 15, 3) := dk_161 0 15 (dk_at dksJ11_grow_1 3 rfl rfl)
theorem dJ11_grow_29 : decode cJ11_grow 29 = .ok (.iload_n 2, 1) := dk_28 (dk_at dksJ11_grow_1 6 rfl rfl)
theorem dJ11_grow_30 : decode cJ11_grow 30 = .ok (.iload 4, 2) := dk_21 4 (dk_at dksJ11_grow_1 7 rfl rfl)
theorem dJ11_grow_32 : decode cJ11_grow 32 = .ok (.iadd, 1) := dk_96 (dk_at dksJ11_grow_1 9 rfl rfl)
theorem dJ11_grow_33 : decode cJ11_grow 33 = .ok (.dup, 1) := dk_89 (dk_at dksJ11_grow_1 10 rfl rfl)
theorem dJ11_grow_34 : decode cJ11_grow 34 = .ok (.istore_n 3, 1) := dk_62 (dk_at dksJ11_grow_1 11 rfl rfl)
theorem dJ11_grow_35 : decode cJ11_grow 35 = .ok (.ldc 9, 2) := dk_18 9 (dk_at dksJ11_grow_1 12 rfl rfl)
theorem dJ11_grow_37 : decode cJ11_grow 37 = .ok (.isub, 1) := dk_100 (dk_at dksJ11_grow_1 14 rfl rfl)
theorem dJ11_grow_38 : decode cJ11_grow 38 = .ok (.ifCond .le 11, 3) := dk_158 0 11 (dk_at dksJ11_grow_1 15 rfl rfl)
theorem dJ11_grow_41 : decode cJ11_grow 41 = .ok (.aload_n 0, 1) := dk_42 (dk_at dksJ11_grow_1 18 rfl rfl)
theorem dJ11_grow_42 : decode cJ11_grow 42 = .ok (.iload_n 1, 1) := dk_27 (dk_at dksJ11_grow_1 19 rfl rfl)
theorem dJ11_grow_43 : decode cJ11_grow 43 = .ok (.iload 4, 2) := dk_21 4 (dk_at dksJ11_grow_1 20 rfl rfl)
theorem dJ11_grow_45 : decode cJ11_grow 45 = .ok (.invokevirtual 10, 3) := dk_182 0 10 (dk_at dksJ11_grow_2 0 rfl rfl)
theorem dJ11_grow_48 : decode cJ11_grow 48 = .ok (.istore_n 3, 1) := dk_62 (dk_at dksJ11_grow_2 3 rfl rfl)
theorem dJ11_grow_49 : decode cJ11_grow 49 = .ok (.aload_n 0, 1) := dk_42 (dk_at dksJ11_grow_2 4 rfl rfl)
theorem dJ11_grow_50 : decode cJ11_grow 50 = .ok (.aload_n 0, 1) := dk_42 (dk_at dksJ11_grow_2 5 rfl rfl)
theorem dJ11_grow_51 : decode cJ11_grow 51 = .ok (.getfield 3, 3) := dk_180 0 3 (dk_at dksJ11_grow_2 6 rfl rfl)
theorem dJ11_grow_54 : decode cJ11_grow 54 = .ok (.iload_n 3, 1) := dk_29 (dk_at dksJ11_grow_2 9 rfl rfl)
theorem dJ11_grow_55 : decode cJ11_grow 55 = .ok (.invokestatic 14, 3) := dk_184 0 14 (dk_at dksJ11_grow_2 10 rfl rfl)
theorem dJ11_grow_58 : decode cJ11_grow 58 = .ok (.dup_x1, 1) := dk_90 (dk_at dksJ11_grow_2 13 rfl rfl)
theorem dJ11_grow_59 : decode cJ11_grow 59 = .ok (.putfield 3, 3) := dk_181 0 3 (dk_at dksJ11_grow_2 14 rfl rfl)
theorem dJ11_grow_62 : decode cJ11_grow 62 = .ok (.astore 5, 2) := dk_58 5 (dk_at dksJ11_grow_2 17 rfl rfl)
theorem dJ11_grow_64 : decode cJ11_grow 64 = .ok (.aload_n 0, 1) := dk_42 (dk_at dksJ11_grow_2 19 rfl rfl)
theorem dJ11_grow_65 : decode cJ11_grow 65 = .ok (.getfield 20, 3) := dk_180 0 20 (dk_at dksJ11_grow_2 20 rfl rfl)
theorem dJ11_grow_68 : decode cJ11_grow 68 = .ok (.aload_n 0, 1) := dk_42 (dk_at dksJ11_grow_2 23 rfl rfl)
theorem dJ11_grow_69 : decode cJ11_grow 69 = .ok (.getfield 24, 3) := dk_180 0 24 (dk_at dksJ11_grow_3 0 rfl rfl)
theorem dJ11_grow_72 : decode cJ11_grow 72 = .ok (.if_icmp .lt 24, 3) := dk_161 0 24 (dk_at dksJ11_grow_3 3 rfl rfl)
theorem dJ11_grow_75 : decode cJ11_grow 75 = .ok (.aload_n 0, 1) := dk_42 (dk_at dksJ11_grow_3 6 rfl rfl)
theorem dJ11_grow_76 : decode cJ11_grow 76 = .ok (.getfield 20, 3) := dk_180 0 20 (dk_at dksJ11_grow_3 7 rfl rfl)
theorem dJ11_grow_79 : decode cJ11_grow 79 = .ok (.aload_n 0, 1) := dk_42 (dk_at dksJ11_grow_3 10 rfl rfl)
theorem dJ11_grow_80 : decode cJ11_grow 80 = .ok (.getfield 24, 3) := dk_180 0 24 (dk_at dksJ11_grow_3 11 rfl rfl)
theorem dJ11_grow_83 : decode cJ11_grow 83 = .ok (.if_icmp .ne 81, 3) := dk_160 0 81 (dk_at dksJ11_grow_3 14 rfl rfl)
theorem dJ11_grow_86 : decode cJ11_grow 86 = .ok (.aload 5, 2) := dk_25 5 (dk_at dksJ11_grow_3 17 rfl rfl)
theorem dJ11_grow_88 : decode cJ11_grow 88 = .ok (.aload_n 0, 1) := dk_42 (dk_at dksJ11_grow_3 19 rfl rfl)
theorem dJ11_grow_89 : decode cJ11_grow 89 = .ok (.getfield 24, 3) := dk_180 0 24 (dk_at dksJ11_grow_3 20 rfl rfl)
theorem dJ11_grow_92 : decode cJ11_grow 92 = .ok (.aaload, 1) := dk_50 (dk_at dksJ11_grow_3 23 rfl rfl)
theorem dJ11_grow_93 : decode cJ11_grow 93 = .ok (.ifnull 71, 3) := dk_198 0 71 (dk_at dksJ11_grow_4 0 rfl rfl)
theorem dJ11_grow_96 : decode cJ11_grow 96 = .ok (.iload_n 3, 1) := dk_29 (dk_at dksJ11_grow_4 3 rfl rfl)
theorem dJ11_grow_97 : decode cJ11_grow 97 = .ok (.iload_n 2, 1) := dk_28 (dk_at dksJ11_grow_4 4 rfl rfl)
theorem dJ11_grow_98 : decode cJ11_grow 98 = .ok (.isub, 1) := dk_100 (dk_at dksJ11_grow_4 5 rfl rfl)
theorem dJ11_grow_99 : decode cJ11_grow 99 = .ok (.istore 6, 2) := dk_54 6 (dk_at dksJ11_grow_4 6 rfl rfl)
theorem dJ11_grow_101 : decode cJ11_grow 101 = .ok (.aload 5, 2) := dk_25 5 (dk_at dksJ11_grow_4 8 rfl rfl)
theorem dJ11_grow_103 : decode cJ11_grow 103 = .ok (.aload_n 0, 1) := dk_42 (dk_at dksJ11_grow_4 10 rfl rfl)
theorem dJ11_grow_104 : decode cJ11_grow 104 = .ok (.getfield 24, 3) := dk_180 0 24 (dk_at dksJ11_grow_4 11 rfl rfl)
theorem dJ11_grow_107 : decode cJ11_grow 107 = .ok (.aload 5, 2) := dk_25 5 (dk_at dksJ11_grow_4 14 rfl rfl)
theorem dJ11_grow_109 : decode cJ11_grow 109 = .ok (.aload_n 0, 1) := dk_42 (dk_at dksJ11_grow_4 16 rfl rfl)
theorem dJ11_grow_110 : decode cJ11_grow 110 = .ok (.getfield 24, 3) := dk_180 0 24 (dk_at dksJ11_grow_4 17 rfl rfl)
theorem dJ11_grow_113 : decode cJ11_grow 113 = .ok (.iload 6, 2) := dk_21 6 (dk_at dksJ11_grow_4 20 rfl rfl)
theorem dJ11_grow_115 : decode cJ11_grow 115 = .ok (.iadd, 1) := dk_96 (dk_at dksJ11_grow_4 22 rfl rfl)
theorem dJ11_grow_116 : decode cJ11_grow 116 = .ok (.iload_n 2, 1) := dk_28 (dk_at dksJ11_grow_4 23 rfl rfl)
theorem dJ11_grow_117 : decode cJ11_grow 117 = .ok (.aload_n 0, 1) := dk_42 (dk_at dksJ11_grow_5 0 rfl rfl)
theorem dJ11_grow_118 : decode cJ11_grow 118 = .ok (.getfield 24, 3) := dk_180 0 24 (dk_at dksJ11_grow_5 1 rfl rfl)
theorem dJ11_grow_121 : decode cJ11_grow 121 = .ok (.isub, 1) := dk_100 (dk_at dksJ11_grow_5 4 rfl rfl)
theorem dJ11_grow_122 : decode cJ11_grow 122 = .ok (.invokestatic 27, 3) := dk_184 0 27 (dk_at dksJ11_grow_5 5 rfl rfl)
theorem dJ11_grow_125 : decode cJ11_grow 125 = .ok (.aload_n 0, 1) := dk_42 (dk_at dksJ11_grow_5 8 rfl rfl)
theorem dJ11_grow_126 : decode cJ11_grow 126 = .ok (.getfield 24, 3) := dk_180 0 24 (dk_at dksJ11_grow_5 9 rfl rfl)
theorem dJ11_grow_129 : decode cJ11_grow 129 = .ok (.istore 7, 2) := dk_54 7 (dk_at dksJ11_grow_5 12 rfl rfl)
theorem dJ11_grow_131 : decode cJ11_grow 131 = .ok (.aload_n 0, 1) := dk_42 (dk_at dksJ11_grow_5 14 rfl rfl)
theorem dJ11_grow_132 : decode cJ11_grow 132 = .ok (.dup, 1) := dk_89 (dk_at dksJ11_grow_5 15 rfl rfl)
theorem dJ11_grow_133 : decode cJ11_grow 133 = .ok (.getfield 24, 3) := dk_180 0 24 (dk_at dksJ11_grow_5 16 rfl rfl)
theorem dJ11_grow_136 : decode cJ11_grow 136 = .ok (.iload 6, 2) := dk_21 6 (dk_at dksJ11_grow_5 19 rfl rfl)
theorem dJ11_grow_138 : decode cJ11_grow 138 = .ok (.iadd, 1) := dk_96 (dk_at dksJ11_grow_5 21 rfl rfl)
theorem dJ11_grow_139 : decode cJ11_grow 139 = .ok (.dup_x1, 1) := dk_90 (dk_at dksJ11_grow_5 22 rfl rfl)
theorem dJ11_grow_140 : decode cJ11_grow 140 = .ok (.putfield 24, 3) := dk_181 0 24 (dk_at dksJ11_grow_6 0 rfl rfl)
theorem dJ11_grow_143 : decode cJ11_grow 143 = .ok (.istore 8, 2) := dk_54 8 (dk_at dksJ11_grow_6 3 rfl rfl)
theorem dJ11_grow_145 : decode cJ11_grow 145 = .ok (.iload 7, 2) := dk_21 7 (dk_at dksJ11_grow_6 5 rfl rfl)
theorem dJ11_grow_147 : decode cJ11_grow 147 = .ok (.iload 8, 2) := dk_21 8 (dk_at dksJ11_grow_6 7 rfl rfl)
theorem dJ11_grow_149 : decode cJ11_grow 149 = .ok (.if_icmp .ge 15, 3) := dk_162 0 15 (dk_at dksJ11_grow_6 9 rfl rfl)
theorem dJ11_grow_152 : decode cJ11_grow 152 = .ok (.aload 5, 2) := dk_25 5 (dk_at dksJ11_grow_6 12 rfl rfl)
theorem dJ11_grow_154 : decode cJ11_grow 154 = .ok (.iload 7, 2) := dk_21 7 (dk_at dksJ11_grow_6 14 rfl rfl)
theorem dJ11_grow_156 : decode cJ11_grow 156 = .ok (.aconst_null, 1) := dk_1 (dk_at dksJ11_grow_6 16 rfl rfl)
theorem dJ11_grow_157 : decode cJ11_grow 157 = .ok (.aastore, 1) := dk_83 (dk_at dksJ11_grow_6 17 rfl rfl)
theorem dJ11_grow_158 : decode cJ11_grow 158 = .ok (.iinc 7 1, 3) := dk_132 7 1 (dk_at dksJ11_grow_6 18 rfl rfl)
theorem dJ11_grow_161 : decode cJ11_grow 161 = .ok (.goto (-16), 3) := dk_167 255 240 (dk_at dksJ11_grow_6 21 rfl rfl)
theorem dJ11_grow_164 : decode cJ11_grow 164 = .ok (.return_, 1) := dk_177 (dk_at dksJ11_grow_7 0 rfl rfl)
abbrev cJ11_newCapacity : ByteArray := prog_54_method_2_code
def yJ11_newCapacity : MethodName := ⟨RJ11, "newCapacity", "(II)I"⟩
def dkwJ11_newCapacity_2 : List UInt8 := [18, 9, 100, 156, 0, 9, 29, 28, 96, 167, 0, 5, 18, 9, 172]
abbrev dktJ11_newCapacity_2 : List UInt8 := dkwJ11_newCapacity_2 ++ []
def dkwJ11_newCapacity_1 : List UInt8 := [187, 0, 33, 89, 18, 35, 183, 0, 37, 191, 18, 41, 172, 27, 28, 164, 0, 6, 21, 4, 172, 29, 28, 96]
abbrev dktJ11_newCapacity_1 : List UInt8 := dkwJ11_newCapacity_1 ++ dktJ11_newCapacity_2
def dkwJ11_newCapacity_0 : List UInt8 := [42, 180, 0, 3, 190, 62, 29, 27, 96, 89, 54, 4, 18, 9, 100, 158, 0, 21, 21, 4, 156, 0, 13]
abbrev dktJ11_newCapacity_0 : List UInt8 := dkwJ11_newCapacity_0 ++ dktJ11_newCapacity_1
theorem dksJ11_newCapacity_0 : cJ11_newCapacity.data.toList.drop 0 = dktJ11_newCapacity_0 := by decide +kernel
theorem dksJ11_newCapacity_1 : cJ11_newCapacity.data.toList.drop 23 = dktJ11_newCapacity_1 := dk_seg dksJ11_newCapacity_0 23 rfl rfl
theorem dksJ11_newCapacity_2 : cJ11_newCapacity.data.toList.drop 47 = dktJ11_newCapacity_2 := dk_seg dksJ11_newCapacity_1 24 rfl rfl
theorem dJ11_newCapacity_0 : decode cJ11_newCapacity 0 = .ok (.aload_n 0, 1) := dk_42 (dk_at dksJ11_newCapacity_0 0 rfl rfl)
theorem dJ11_newCapacity_1 : decode cJ11_newCapacity 1 = .ok (.getfield 3, 3) := dk_180 0 3 (dk_at dksJ11_newCapacity_0 1 rfl rfl)
theorem dJ11_newCapacity_4 : decode cJ11_newCapacity 4 = .ok (.arraylength, 1) := dk_190 (dk_at dksJ11_newCapacity_0 4 rfl rfl)
theorem dJ11_newCapacity_5 : decode cJ11_newCapacity 5 = .ok (.istore_n 3, 1) := dk_62 (dk_at dksJ11_newCapacity_0 5 rfl rfl)
theorem dJ11_newCapacity_6 : decode cJ11_newCapacity 6 = .ok (.iload_n 3, 1) := dk_29 (dk_at dksJ11_newCapacity_0 6 rfl rfl)
theorem dJ11_newCapacity_7 : decode cJ11_newCapacity 7 = .ok (.iload_n 1, 1) := dk_27 (dk_at dksJ11_newCapacity_0 7 rfl rfl)
theorem dJ11_newCapacity_8 : decode cJ11_newCapacity 8 = .ok (.iadd, 1) := dk_96 (dk_at dksJ11_newCapacity_0 8 rfl rfl)
theorem dJ11_newCapacity_9 : decode cJ11_newCapacity 9 = .ok (.dup, 1) := dk_89 (dk_at dksJ11_newCapacity_0 9 rfl rfl)
theorem dJ11_newCapacity_10 : decode cJ11_newCapacity 10 = .ok (.istore 4, 2) := dk_54 4 (dk_at dksJ11_newCapacity_0 10 rfl rfl)
theorem dJ11_newCapacity_12 : decode cJ11_newCapacity 12 = .ok (.ldc 9, 2) := dk_18 9 (dk_at dksJ11_newCapacity_0 12 rfl rfl)
theorem dJ11_newCapacity_14 : decode cJ11_newCapacity 14 = .ok (.isub, 1) := dk_100 (dk_at dksJ11_newCapacity_0 14 rfl rfl)
theorem dJ11_newCapacity_15 : decode cJ11_newCapacity 15 = .ok (.ifCond .le 21, 3) := dk_158 0 21 (dk_at dksJ11_newCapacity_0 15 rfl rfl)
theorem dJ11_newCapacity_18 : decode cJ11_newCapacity 18 = .ok (.iload 4, 2) := dk_21 4 (dk_at dksJ11_newCapacity_0 18 rfl rfl)
theorem dJ11_newCapacity_20 : decode cJ11_newCapacity 20 = .ok (.ifCond .ge 13, 3) := dk_156 0 13 (dk_at dksJ11_newCapacity_0 20 rfl rfl)
theorem dJ11_newCapacity_23 : decode cJ11_newCapacity 23 = .ok (.new 33, 3) := dk_187 0 33 (dk_at dksJ11_newCapacity_1 0 rfl rfl)
theorem dJ11_newCapacity_26 : decode cJ11_newCapacity 26 = .ok (.dup, 1) := dk_89 (dk_at dksJ11_newCapacity_1 3 rfl rfl)
theorem dJ11_newCapacity_27 : decode cJ11_newCapacity 27 = .ok (.ldc 35, 2) := dk_18 35 (dk_at dksJ11_newCapacity_1 4 rfl rfl)
theorem dJ11_newCapacity_29 : decode cJ11_newCapacity 29 = .ok (.invokespecial 37, 3) := dk_183 0 37 (dk_at dksJ11_newCapacity_1 6 rfl rfl)
theorem dJ11_newCapacity_32 : decode cJ11_newCapacity 32 = .ok (.athrow, 1) := dk_191 (dk_at dksJ11_newCapacity_1 9 rfl rfl)
theorem dJ11_newCapacity_33 : decode cJ11_newCapacity 33 = .ok (.ldc 41, 2) := dk_18 41 (dk_at dksJ11_newCapacity_1 10 rfl rfl)
theorem dJ11_newCapacity_35 : decode cJ11_newCapacity 35 = .ok (.ireturn, 1) := dk_172 (dk_at dksJ11_newCapacity_1 12 rfl rfl)
theorem dJ11_newCapacity_36 : decode cJ11_newCapacity 36 = .ok (.iload_n 1, 1) := dk_27 (dk_at dksJ11_newCapacity_1 13 rfl rfl)
theorem dJ11_newCapacity_37 : decode cJ11_newCapacity 37 = .ok (.iload_n 2, 1) := dk_28 (dk_at dksJ11_newCapacity_1 14 rfl rfl)
theorem dJ11_newCapacity_38 : decode cJ11_newCapacity 38 = .ok (.if_icmp .le 6, 3) := dk_164 0 6 (dk_at dksJ11_newCapacity_1 15 rfl rfl)
theorem dJ11_newCapacity_41 : decode cJ11_newCapacity 41 = .ok (.iload 4, 2) := dk_21 4 (dk_at dksJ11_newCapacity_1 18 rfl rfl)
theorem dJ11_newCapacity_43 : decode cJ11_newCapacity 43 = .ok (.ireturn, 1) := dk_172 (dk_at dksJ11_newCapacity_1 20 rfl rfl)
theorem dJ11_newCapacity_44 : decode cJ11_newCapacity 44 = .ok (.iload_n 3, 1) := dk_29 (dk_at dksJ11_newCapacity_1 21 rfl rfl)
theorem dJ11_newCapacity_45 : decode cJ11_newCapacity 45 = .ok (.iload_n 2, 1) := dk_28 (dk_at dksJ11_newCapacity_1 22 rfl rfl)
theorem dJ11_newCapacity_46 : decode cJ11_newCapacity 46 = .ok (.iadd, 1) := dk_96 (dk_at dksJ11_newCapacity_1 23 rfl rfl)
theorem dJ11_newCapacity_47 : decode cJ11_newCapacity 47 = .ok (.ldc 9, 2) := dk_18 9 (dk_at dksJ11_newCapacity_2 0 rfl rfl)
theorem dJ11_newCapacity_49 : decode cJ11_newCapacity 49 = .ok (.isub, 1) := dk_100 (dk_at dksJ11_newCapacity_2 2 rfl rfl)
theorem dJ11_newCapacity_50 : decode cJ11_newCapacity 50 = .ok (.ifCond .ge 9, 3) := dk_156 0 9 (dk_at dksJ11_newCapacity_2 3 rfl rfl)
theorem dJ11_newCapacity_53 : decode cJ11_newCapacity 53 = .ok (.iload_n 3, 1) := dk_29 (dk_at dksJ11_newCapacity_2 6 rfl rfl)
theorem dJ11_newCapacity_54 : decode cJ11_newCapacity 54 = .ok (.iload_n 2, 1) := dk_28 (dk_at dksJ11_newCapacity_2 7 rfl rfl)
theorem dJ11_newCapacity_55 : decode cJ11_newCapacity 55 = .ok (.iadd, 1) := dk_96 (dk_at dksJ11_newCapacity_2 8 rfl rfl)
theorem dJ11_newCapacity_56 : decode cJ11_newCapacity 56 = .ok (.goto 5, 3) := dk_167 0 5 (dk_at dksJ11_newCapacity_2 9 rfl rfl)
theorem dJ11_newCapacity_59 : decode cJ11_newCapacity 59 = .ok (.ldc 9, 2) := dk_18 9 (dk_at dksJ11_newCapacity_2 12 rfl rfl)
theorem dJ11_newCapacity_61 : decode cJ11_newCapacity 61 = .ok (.ireturn, 1) := dk_172 (dk_at dksJ11_newCapacity_2 14 rfl rfl)
abbrev cJ11_removeLast : ByteArray := prog_54_method_19_code
def yJ11_removeLast : MethodName := ⟨RJ11, "removeLast", "()Ljava/lang/Object;"⟩
def dkwJ11_removeLast_0 : List UInt8 := [42, 182, 0, 100, 76, 43, 199, 0, 11, 187, 0, 97, 89, 183, 0, 99, 191, 43, 176]
abbrev dktJ11_removeLast_0 : List UInt8 := dkwJ11_removeLast_0 ++ []
theorem dksJ11_removeLast_0 : cJ11_removeLast.data.toList.drop 0 = dktJ11_removeLast_0 := by decide +kernel
theorem dJ11_removeLast_0 : decode cJ11_removeLast 0 = .ok (.aload_n 0, 1) := dk_42 (dk_at dksJ11_removeLast_0 0 rfl rfl)
theorem dJ11_removeLast_1 : decode cJ11_removeLast 1 = .ok (.invokevirtual 100, 3) := dk_182 0 100 (dk_at dksJ11_removeLast_0 1 rfl rfl)
theorem dJ11_removeLast_4 : decode cJ11_removeLast 4 = .ok (.astore_n 1, 1) := dk_76 (dk_at dksJ11_removeLast_0 4 rfl rfl)
theorem dJ11_removeLast_5 : decode cJ11_removeLast 5 = .ok (.aload_n 1, 1) := dk_43 (dk_at dksJ11_removeLast_0 5 rfl rfl)
theorem dJ11_removeLast_6 : decode cJ11_removeLast 6 = .ok (.ifnonnull 11, 3) := dk_199 0 11 (dk_at dksJ11_removeLast_0 6 rfl rfl)
theorem dJ11_removeLast_9 : decode cJ11_removeLast 9 = .ok (.new 97, 3) := dk_187 0 97 (dk_at dksJ11_removeLast_0 9 rfl rfl)
theorem dJ11_removeLast_12 : decode cJ11_removeLast 12 = .ok (.dup, 1) := dk_89 (dk_at dksJ11_removeLast_0 12 rfl rfl)
theorem dJ11_removeLast_13 : decode cJ11_removeLast 13 = .ok (.invokespecial 99, 3) := dk_183 0 99 (dk_at dksJ11_removeLast_0 13 rfl rfl)
theorem dJ11_removeLast_16 : decode cJ11_removeLast 16 = .ok (.athrow, 1) := dk_191 (dk_at dksJ11_removeLast_0 16 rfl rfl)
theorem dJ11_removeLast_17 : decode cJ11_removeLast 17 = .ok (.aload_n 1, 1) := dk_43 (dk_at dksJ11_removeLast_0 17 rfl rfl)
theorem dJ11_removeLast_18 : decode cJ11_removeLast 18 = .ok (.areturn, 1) := dk_176 (dk_at dksJ11_removeLast_0 18 rfl rfl)
abbrev cJ11_pollLast : ByteArray := prog_54_method_21_code
def yJ11_pollLast : MethodName := ⟨RJ11, "pollLast", "()Ljava/lang/Object;"⟩
def dkwJ11_pollLast_1 : List UInt8 := [198, 0, 12, 43, 42, 28, 90, 181, 0, 20, 1, 83, 45, 176]
abbrev dktJ11_pollLast_1 : List UInt8 := dkwJ11_pollLast_1 ++ []
def dkwJ11_pollLast_0 : List UInt8 := [42, 180, 0, 3, 89, 76, 42, 180, 0, 20, 43, 190, 184, 0, 68, 89, 61, 184, 0, 103, 78, 45]
abbrev dktJ11_pollLast_0 : List UInt8 := dkwJ11_pollLast_0 ++ dktJ11_pollLast_1
theorem dksJ11_pollLast_0 : cJ11_pollLast.data.toList.drop 0 = dktJ11_pollLast_0 := by decide +kernel
theorem dksJ11_pollLast_1 : cJ11_pollLast.data.toList.drop 22 = dktJ11_pollLast_1 := dk_seg dksJ11_pollLast_0 22 rfl rfl
theorem dJ11_pollLast_0 : decode cJ11_pollLast 0 = .ok (.aload_n 0, 1) := dk_42 (dk_at dksJ11_pollLast_0 0 rfl rfl)
theorem dJ11_pollLast_1 : decode cJ11_pollLast 1 = .ok (.getfield 3, 3) := dk_180 0 3 (dk_at dksJ11_pollLast_0 1 rfl rfl)
theorem dJ11_pollLast_4 : decode cJ11_pollLast 4 = .ok (.dup, 1) := dk_89 (dk_at dksJ11_pollLast_0 4 rfl rfl)
theorem dJ11_pollLast_5 : decode cJ11_pollLast 5 = .ok (.astore_n 1, 1) := dk_76 (dk_at dksJ11_pollLast_0 5 rfl rfl)
theorem dJ11_pollLast_6 : decode cJ11_pollLast 6 = .ok (.aload_n 0, 1) := dk_42 (dk_at dksJ11_pollLast_0 6 rfl rfl)
theorem dJ11_pollLast_7 : decode cJ11_pollLast 7 = .ok (.getfield 20, 3) := dk_180 0 20 (dk_at dksJ11_pollLast_0 7 rfl rfl)
theorem dJ11_pollLast_10 : decode cJ11_pollLast 10 = .ok (.aload_n 1, 1) := dk_43 (dk_at dksJ11_pollLast_0 10 rfl rfl)
theorem dJ11_pollLast_11 : decode cJ11_pollLast 11 = .ok (.arraylength, 1) := dk_190 (dk_at dksJ11_pollLast_0 11 rfl rfl)
theorem dJ11_pollLast_12 : decode cJ11_pollLast 12 = .ok (.invokestatic 68, 3) := dk_184 0 68 (dk_at dksJ11_pollLast_0 12 rfl rfl)
theorem dJ11_pollLast_15 : decode cJ11_pollLast 15 = .ok (.dup, 1) := dk_89 (dk_at dksJ11_pollLast_0 15 rfl rfl)
theorem dJ11_pollLast_16 : decode cJ11_pollLast 16 = .ok (.istore_n 2, 1) := dk_61 (dk_at dksJ11_pollLast_0 16 rfl rfl)
theorem dJ11_pollLast_17 : decode cJ11_pollLast 17 = .ok (.invokestatic 103, 3) := dk_184 0 103 (dk_at dksJ11_pollLast_0 17 rfl rfl)
theorem dJ11_pollLast_20 : decode cJ11_pollLast 20 = .ok (.astore_n 3, 1) := dk_78 (dk_at dksJ11_pollLast_0 20 rfl rfl)
theorem dJ11_pollLast_21 : decode cJ11_pollLast 21 = .ok (.aload_n 3, 1) := dk_45 (dk_at dksJ11_pollLast_0 21 rfl rfl)
theorem dJ11_pollLast_22 : decode cJ11_pollLast 22 = .ok (.ifnull 12, 3) := dk_198 0 12 (dk_at dksJ11_pollLast_1 0 rfl rfl)
theorem dJ11_pollLast_25 : decode cJ11_pollLast 25 = .ok (.aload_n 1, 1) := dk_43 (dk_at dksJ11_pollLast_1 3 rfl rfl)
theorem dJ11_pollLast_26 : decode cJ11_pollLast 26 = .ok (.aload_n 0, 1) := dk_42 (dk_at dksJ11_pollLast_1 4 rfl rfl)
theorem dJ11_pollLast_27 : decode cJ11_pollLast 27 = .ok (.iload_n 2, 1) := dk_28 (dk_at dksJ11_pollLast_1 5 rfl rfl)
theorem dJ11_pollLast_28 : decode cJ11_pollLast 28 = .ok (.dup_x1, 1) := dk_90 (dk_at dksJ11_pollLast_1 6 rfl rfl)
theorem dJ11_pollLast_29 : decode cJ11_pollLast 29 = .ok (.putfield 20, 3) := dk_181 0 20 (dk_at dksJ11_pollLast_1 7 rfl rfl)
theorem dJ11_pollLast_32 : decode cJ11_pollLast 32 = .ok (.aconst_null, 1) := dk_1 (dk_at dksJ11_pollLast_1 10 rfl rfl)
theorem dJ11_pollLast_33 : decode cJ11_pollLast 33 = .ok (.aastore, 1) := dk_83 (dk_at dksJ11_pollLast_1 11 rfl rfl)
theorem dJ11_pollLast_34 : decode cJ11_pollLast 34 = .ok (.aload_n 3, 1) := dk_45 (dk_at dksJ11_pollLast_1 12 rfl rfl)
theorem dJ11_pollLast_35 : decode cJ11_pollLast 35 = .ok (.areturn, 1) := dk_176 (dk_at dksJ11_pollLast_1 13 rfl rfl)
abbrev cJ11_dec : ByteArray := prog_54_method_7_code
def yJ11_dec : MethodName := ⟨RJ11, "dec", "(II)I"⟩
def dkwJ11_dec_0 : List UInt8 := [132, 0, 255, 26, 156, 0, 7, 27, 4, 100, 59, 26, 172]
abbrev dktJ11_dec_0 : List UInt8 := dkwJ11_dec_0 ++ []
theorem dksJ11_dec_0 : cJ11_dec.data.toList.drop 0 = dktJ11_dec_0 := by decide +kernel
theorem dJ11_dec_0 : decode cJ11_dec 0 = .ok (.iinc 0 (-1), 3) := dk_132 0 255 (dk_at dksJ11_dec_0 0 rfl rfl)
theorem dJ11_dec_3 : decode cJ11_dec 3 = .ok (.iload_n 0, 1) := dk_26 (dk_at dksJ11_dec_0 3 rfl rfl)
theorem dJ11_dec_4 : decode cJ11_dec 4 = .ok (.ifCond .ge 7, 3) := dk_156 0 7 (dk_at dksJ11_dec_0 4 rfl rfl)
theorem dJ11_dec_7 : decode cJ11_dec 7 = .ok (.iload_n 1, 1) := dk_27 (dk_at dksJ11_dec_0 7 rfl rfl)
theorem dJ11_dec_8 : decode cJ11_dec 8 = .ok (.iconst 1, 1) := dk_4 (dk_at dksJ11_dec_0 8 rfl rfl)
theorem dJ11_dec_9 : decode cJ11_dec 9 = .ok (.isub, 1) := dk_100 (dk_at dksJ11_dec_0 9 rfl rfl)
theorem dJ11_dec_10 : decode cJ11_dec 10 = .ok (.istore_n 0, 1) := dk_59 (dk_at dksJ11_dec_0 10 rfl rfl)
theorem dJ11_dec_11 : decode cJ11_dec 11 = .ok (.iload_n 0, 1) := dk_26 (dk_at dksJ11_dec_0 11 rfl rfl)
theorem dJ11_dec_12 : decode cJ11_dec 12 = .ok (.ireturn, 1) := dk_172 (dk_at dksJ11_dec_0 12 rfl rfl)
abbrev cJ11_clear : ByteArray := prog_54_method_53_code
def yJ11_clear : MethodName := ⟨RJ11, "clear", "()V"⟩
def dkwJ11_clear_1 : List UInt8 := [181, 0, 24, 177]
abbrev dktJ11_clear_1 : List UInt8 := dkwJ11_clear_1 ++ []
def dkwJ11_clear_0 : List UInt8 := [42, 180, 0, 3, 42, 180, 0, 24, 42, 180, 0, 20, 184, 0, 181, 42, 42, 3, 90, 181, 0, 20]
abbrev dktJ11_clear_0 : List UInt8 := dkwJ11_clear_0 ++ dktJ11_clear_1
theorem dksJ11_clear_0 : cJ11_clear.data.toList.drop 0 = dktJ11_clear_0 := by decide +kernel
theorem dksJ11_clear_1 : cJ11_clear.data.toList.drop 22 = dktJ11_clear_1 := dk_seg dksJ11_clear_0 22 rfl rfl
theorem dJ11_clear_0 : decode cJ11_clear 0 = .ok (.aload_n 0, 1) := dk_42 (dk_at dksJ11_clear_0 0 rfl rfl)
theorem dJ11_clear_1 : decode cJ11_clear 1 = .ok (.getfield 3, 3) := dk_180 0 3 (dk_at dksJ11_clear_0 1 rfl rfl)
theorem dJ11_clear_4 : decode cJ11_clear 4 = .ok (.aload_n 0, 1) := dk_42 (dk_at dksJ11_clear_0 4 rfl rfl)
theorem dJ11_clear_5 : decode cJ11_clear 5 = .ok (.getfield 24, 3) := dk_180 0 24 (dk_at dksJ11_clear_0 5 rfl rfl)
theorem dJ11_clear_8 : decode cJ11_clear 8 = .ok (.aload_n 0, 1) := dk_42 (dk_at dksJ11_clear_0 8 rfl rfl)
theorem dJ11_clear_9 : decode cJ11_clear 9 = .ok (.getfield 20, 3) := dk_180 0 20 (dk_at dksJ11_clear_0 9 rfl rfl)
theorem dJ11_clear_12 : decode cJ11_clear 12 = .ok (.invokestatic 181, 3) := dk_184 0 181 (dk_at dksJ11_clear_0 12 rfl rfl)
theorem dJ11_clear_15 : decode cJ11_clear 15 = .ok (.aload_n 0, 1) := dk_42 (dk_at dksJ11_clear_0 15 rfl rfl)
theorem dJ11_clear_16 : decode cJ11_clear 16 = .ok (.aload_n 0, 1) := dk_42 (dk_at dksJ11_clear_0 16 rfl rfl)
theorem dJ11_clear_17 : decode cJ11_clear 17 = .ok (.iconst 0, 1) := dk_3 (dk_at dksJ11_clear_0 17 rfl rfl)
theorem dJ11_clear_18 : decode cJ11_clear 18 = .ok (.dup_x1, 1) := dk_90 (dk_at dksJ11_clear_0 18 rfl rfl)
theorem dJ11_clear_19 : decode cJ11_clear 19 = .ok (.putfield 20, 3) := dk_181 0 20 (dk_at dksJ11_clear_0 19 rfl rfl)
theorem dJ11_clear_22 : decode cJ11_clear 22 = .ok (.putfield 24, 3) := dk_181 0 24 (dk_at dksJ11_clear_1 0 rfl rfl)
theorem dJ11_clear_25 : decode cJ11_clear 25 = .ok (.return_, 1) := dk_177 (dk_at dksJ11_clear_1 3 rfl rfl)
abbrev cJ11_circularClear : ByteArray := prog_54_method_54_code
def yJ11_circularClear : MethodName := ⟨RJ11, "circularClear", "([Ljava/lang/Object;II)V"⟩
def dkwJ11_circularClear_1 : List UInt8 := [167, 255, 244, 29, 28, 160, 0, 6, 167, 0, 10, 3, 60, 28, 62, 167, 255, 229, 177]
abbrev dktJ11_circularClear_1 : List UInt8 := dkwJ11_circularClear_1 ++ []
def dkwJ11_circularClear_0 : List UInt8 := [27, 28, 163, 0, 7, 28, 167, 0, 5, 42, 190, 62, 27, 29, 162, 0, 13, 42, 27, 1, 83, 132, 1, 1]
abbrev dktJ11_circularClear_0 : List UInt8 := dkwJ11_circularClear_0 ++ dktJ11_circularClear_1
theorem dksJ11_circularClear_0 : cJ11_circularClear.data.toList.drop 0 = dktJ11_circularClear_0 := by decide +kernel
theorem dksJ11_circularClear_1 : cJ11_circularClear.data.toList.drop 24 = dktJ11_circularClear_1 := dk_seg dksJ11_circularClear_0 24 rfl rfl
theorem dJ11_circularClear_0 : decode cJ11_circularClear 0 = .ok (.iload_n 1, 1) := dk_27 (dk_at dksJ11_circularClear_0 0 rfl rfl)
theorem dJ11_circularClear_1 : decode cJ11_circularClear 1 = .ok (.iload_n 2, 1) := dk_28 (dk_at dksJ11_circularClear_0 1 rfl rfl)
theorem dJ11_circularClear_2 : decode cJ11_circularClear 2 = .ok (.if_icmp .gt 7, 3) := dk_163 0 7 (dk_at dksJ11_circularClear_0 2 rfl rfl)
theorem dJ11_circularClear_5 : decode cJ11_circularClear 5 = .ok (.iload_n 2, 1) := dk_28 (dk_at dksJ11_circularClear_0 5 rfl rfl)
theorem dJ11_circularClear_6 : decode cJ11_circularClear 6 = .ok (.goto 5, 3) := dk_167 0 5 (dk_at dksJ11_circularClear_0 6 rfl rfl)
theorem dJ11_circularClear_9 : decode cJ11_circularClear 9 = .ok (.aload_n 0, 1) := dk_42 (dk_at dksJ11_circularClear_0 9 rfl rfl)
theorem dJ11_circularClear_10 : decode cJ11_circularClear 10 = .ok (.arraylength, 1) := dk_190 (dk_at dksJ11_circularClear_0 10 rfl rfl)
theorem dJ11_circularClear_11 : decode cJ11_circularClear 11 = .ok (.istore_n 3, 1) := dk_62 (dk_at dksJ11_circularClear_0 11 rfl rfl)
theorem dJ11_circularClear_12 : decode cJ11_circularClear 12 = .ok (.iload_n 1, 1) := dk_27 (dk_at dksJ11_circularClear_0 12 rfl rfl)
theorem dJ11_circularClear_13 : decode cJ11_circularClear 13 = .ok (.iload_n 3, 1) := dk_29 (dk_at dksJ11_circularClear_0 13 rfl rfl)
theorem dJ11_circularClear_14 : decode cJ11_circularClear 14 = .ok (.if_icmp .ge 13, 3) := dk_162 0 13 (dk_at dksJ11_circularClear_0 14 rfl rfl)
theorem dJ11_circularClear_17 : decode cJ11_circularClear 17 = .ok (.aload_n 0, 1) := dk_42 (dk_at dksJ11_circularClear_0 17 rfl rfl)
theorem dJ11_circularClear_18 : decode cJ11_circularClear 18 = .ok (.iload_n 1, 1) := dk_27 (dk_at dksJ11_circularClear_0 18 rfl rfl)
theorem dJ11_circularClear_19 : decode cJ11_circularClear 19 = .ok (.aconst_null, 1) := dk_1 (dk_at dksJ11_circularClear_0 19 rfl rfl)
theorem dJ11_circularClear_20 : decode cJ11_circularClear 20 = .ok (.aastore, 1) := dk_83 (dk_at dksJ11_circularClear_0 20 rfl rfl)
theorem dJ11_circularClear_21 : decode cJ11_circularClear 21 = .ok (.iinc 1 1, 3) := dk_132 1 1 (dk_at dksJ11_circularClear_0 21 rfl rfl)
theorem dJ11_circularClear_24 : decode cJ11_circularClear 24 = .ok (.goto (-12), 3) := dk_167 255 244 (dk_at dksJ11_circularClear_1 0 rfl rfl)
theorem dJ11_circularClear_27 : decode cJ11_circularClear 27 = .ok (.iload_n 3, 1) := dk_29 (dk_at dksJ11_circularClear_1 3 rfl rfl)
theorem dJ11_circularClear_28 : decode cJ11_circularClear 28 = .ok (.iload_n 2, 1) := dk_28 (dk_at dksJ11_circularClear_1 4 rfl rfl)
theorem dJ11_circularClear_29 : decode cJ11_circularClear 29 = .ok (.if_icmp .ne 6, 3) := dk_160 0 6 (dk_at dksJ11_circularClear_1 5 rfl rfl)
theorem dJ11_circularClear_32 : decode cJ11_circularClear 32 = .ok (.goto 10, 3) := dk_167 0 10 (dk_at dksJ11_circularClear_1 8 rfl rfl)
theorem dJ11_circularClear_35 : decode cJ11_circularClear 35 = .ok (.iconst 0, 1) := dk_3 (dk_at dksJ11_circularClear_1 11 rfl rfl)
theorem dJ11_circularClear_36 : decode cJ11_circularClear 36 = .ok (.istore_n 1, 1) := dk_60 (dk_at dksJ11_circularClear_1 12 rfl rfl)
theorem dJ11_circularClear_37 : decode cJ11_circularClear 37 = .ok (.iload_n 2, 1) := dk_28 (dk_at dksJ11_circularClear_1 13 rfl rfl)
theorem dJ11_circularClear_38 : decode cJ11_circularClear 38 = .ok (.istore_n 3, 1) := dk_62 (dk_at dksJ11_circularClear_1 14 rfl rfl)
theorem dJ11_circularClear_39 : decode cJ11_circularClear 39 = .ok (.goto (-27), 3) := dk_167 255 229 (dk_at dksJ11_circularClear_1 15 rfl rfl)
theorem dJ11_circularClear_42 : decode cJ11_circularClear 42 = .ok (.return_, 1) := dk_177 (dk_at dksJ11_circularClear_1 18 rfl rfl)
abbrev cJ12_init : ByteArray := prog_17_method_2_code
def yJ12_init : MethodName := ⟨RJ12, "<init>", "(I)V"⟩
def dkwJ12_init_1 : List UInt8 := [167, 0, 16, 42, 27, 184, 0, 26, 181, 0, 15, 42, 4, 181, 0, 22, 177]
abbrev dktJ12_init_1 : List UInt8 := dkwJ12_init_1 ++ []
def dkwJ12_init_0 : List UInt8 := [42, 183, 0, 3, 178, 0, 18, 153, 0, 18, 42, 27, 188, 8, 181, 0, 15, 42, 3, 181, 0, 22]
abbrev dktJ12_init_0 : List UInt8 := dkwJ12_init_0 ++ dktJ12_init_1
theorem dksJ12_init_0 : cJ12_init.data.toList.drop 0 = dktJ12_init_0 := by decide +kernel
theorem dksJ12_init_1 : cJ12_init.data.toList.drop 22 = dktJ12_init_1 := dk_seg dksJ12_init_0 22 rfl rfl
theorem dJ12_init_0 : decode cJ12_init 0 = .ok (.aload_n 0, 1) := dk_42 (dk_at dksJ12_init_0 0 rfl rfl)
theorem dJ12_init_1 : decode cJ12_init 1 = .ok (.invokespecial 3, 3) := dk_183 0 3 (dk_at dksJ12_init_0 1 rfl rfl)
theorem dJ12_init_4 : decode cJ12_init 4 = .ok (.getstatic 18, 3) := dk_178 0 18 (dk_at dksJ12_init_0 4 rfl rfl)
theorem dJ12_init_7 : decode cJ12_init 7 = .ok (.ifCond .eq 18, 3) := dk_153 0 18 (dk_at dksJ12_init_0 7 rfl rfl)
theorem dJ12_init_10 : decode cJ12_init 10 = .ok (.aload_n 0, 1) := dk_42 (dk_at dksJ12_init_0 10 rfl rfl)
theorem dJ12_init_11 : decode cJ12_init 11 = .ok (.iload_n 1, 1) := dk_27 (dk_at dksJ12_init_0 11 rfl rfl)
theorem dJ12_init_12 : decode cJ12_init 12 = .ok (.newarray .byte, 2) := dk_188_8 (dk_at dksJ12_init_0 12 rfl rfl)
theorem dJ12_init_14 : decode cJ12_init 14 = .ok (.putfield 15, 3) := dk_181 0 15 (dk_at dksJ12_init_0 14 rfl rfl)
theorem dJ12_init_17 : decode cJ12_init 17 = .ok (.aload_n 0, 1) := dk_42 (dk_at dksJ12_init_0 17 rfl rfl)
theorem dJ12_init_18 : decode cJ12_init 18 = .ok (.iconst 0, 1) := dk_3 (dk_at dksJ12_init_0 18 rfl rfl)
theorem dJ12_init_19 : decode cJ12_init 19 = .ok (.putfield 22, 3) := dk_181 0 22 (dk_at dksJ12_init_0 19 rfl rfl)
theorem dJ12_init_22 : decode cJ12_init 22 = .ok (.goto 16, 3) := dk_167 0 16 (dk_at dksJ12_init_1 0 rfl rfl)
theorem dJ12_init_25 : decode cJ12_init 25 = .ok (.aload_n 0, 1) := dk_42 (dk_at dksJ12_init_1 3 rfl rfl)
theorem dJ12_init_26 : decode cJ12_init 26 = .ok (.iload_n 1, 1) := dk_27 (dk_at dksJ12_init_1 4 rfl rfl)
theorem dJ12_init_27 : decode cJ12_init 27 = .ok (.invokestatic 26, 3) := dk_184 0 26 (dk_at dksJ12_init_1 5 rfl rfl)
theorem dJ12_init_30 : decode cJ12_init 30 = .ok (.putfield 15, 3) := dk_181 0 15 (dk_at dksJ12_init_1 8 rfl rfl)
theorem dJ12_init_33 : decode cJ12_init 33 = .ok (.aload_n 0, 1) := dk_42 (dk_at dksJ12_init_1 11 rfl rfl)
theorem dJ12_init_34 : decode cJ12_init 34 = .ok (.iconst 1, 1) := dk_4 (dk_at dksJ12_init_1 12 rfl rfl)
theorem dJ12_init_35 : decode cJ12_init 35 = .ok (.putfield 22, 3) := dk_181 0 22 (dk_at dksJ12_init_1 13 rfl rfl)
theorem dJ12_init_38 : decode cJ12_init 38 = .ok (.return_, 1) := dk_177 (dk_at dksJ12_init_1 16 rfl rfl)
abbrev cJ12_append : ByteArray := prog_17_method_22_code
def yJ12_append : MethodName := ⟨RJ12, "append", "(Ljava/lang/String;)Ljava/lang/AbstractStringBuilder;"⟩
def dkwJ12_append_1 : List UInt8 := [42, 42, 180, 0, 79, 43, 182, 0, 208, 42, 89, 180, 0, 79, 28, 96, 181, 0, 79, 42, 176]
abbrev dktJ12_append_1 : List UInt8 := dkwJ12_append_1 ++ []
def dkwJ12_append_0 : List UInt8 := [43, 199, 0, 8, 42, 182, 0, 204, 176, 43, 182, 0, 32, 61, 42, 42, 180, 0, 79, 28, 96, 182, 0, 100]
abbrev dktJ12_append_0 : List UInt8 := dkwJ12_append_0 ++ dktJ12_append_1
theorem dksJ12_append_0 : cJ12_append.data.toList.drop 0 = dktJ12_append_0 := by decide +kernel
theorem dksJ12_append_1 : cJ12_append.data.toList.drop 24 = dktJ12_append_1 := dk_seg dksJ12_append_0 24 rfl rfl
theorem dJ12_append_0 : decode cJ12_append 0 = .ok (.aload_n 1, 1) := dk_43 (dk_at dksJ12_append_0 0 rfl rfl)
theorem dJ12_append_1 : decode cJ12_append 1 = .ok (.ifnonnull 8, 3) := dk_199 0 8 (dk_at dksJ12_append_0 1 rfl rfl)
theorem dJ12_append_4 : decode cJ12_append 4 = .ok (.aload_n 0, 1) := dk_42 (dk_at dksJ12_append_0 4 rfl rfl)
theorem dJ12_append_5 : decode cJ12_append 5 = .ok (.invokevirtual 204, 3) := dk_182 0 204 (dk_at dksJ12_append_0 5 rfl rfl)
theorem dJ12_append_8 : decode cJ12_append 8 = .ok (.areturn, 1) := dk_176 (dk_at dksJ12_append_0 8 rfl rfl)
theorem dJ12_append_9 : decode cJ12_append 9 = .ok (.aload_n 1, 1) := dk_43 (dk_at dksJ12_append_0 9 rfl rfl)
theorem dJ12_append_10 : decode cJ12_append 10 = .ok (.invokevirtual 32, 3) := dk_182 0 32 (dk_at dksJ12_append_0 10 rfl rfl)
theorem dJ12_append_13 : decode cJ12_append 13 = .ok (.istore_n 2, 1) := dk_61 (dk_at dksJ12_append_0 13 rfl rfl)
theorem dJ12_append_14 : decode cJ12_append 14 = .ok (.aload_n 0, 1) := dk_42 (dk_at dksJ12_append_0 14 rfl rfl)
theorem dJ12_append_15 : decode cJ12_append 15 = .ok (.aload_n 0, 1) := dk_42 (dk_at dksJ12_append_0 15 rfl rfl)
theorem dJ12_append_16 : decode cJ12_append 16 = .ok (.getfield 79, 3) := dk_180 0 79 (dk_at dksJ12_append_0 16 rfl rfl)
theorem dJ12_append_19 : decode cJ12_append 19 = .ok (.iload_n 2, 1) := dk_28 (dk_at dksJ12_append_0 19 rfl rfl)
theorem dJ12_append_20 : decode cJ12_append 20 = .ok (.iadd, 1) := dk_96 (dk_at dksJ12_append_0 20 rfl rfl)
theorem dJ12_append_21 : decode cJ12_append 21 = .ok (.invokevirtual 100, 3) := dk_182 0 100 (dk_at dksJ12_append_0 21 rfl rfl)
theorem dJ12_append_24 : decode cJ12_append 24 = .ok (.aload_n 0, 1) := dk_42 (dk_at dksJ12_append_1 0 rfl rfl)
theorem dJ12_append_25 : decode cJ12_append 25 = .ok (.aload_n 0, 1) := dk_42 (dk_at dksJ12_append_1 1 rfl rfl)
theorem dJ12_append_26 : decode cJ12_append 26 = .ok (.getfield 79, 3) := dk_180 0 79 (dk_at dksJ12_append_1 2 rfl rfl)
theorem dJ12_append_29 : decode cJ12_append 29 = .ok (.aload_n 1, 1) := dk_43 (dk_at dksJ12_append_1 5 rfl rfl)
theorem dJ12_append_30 : decode cJ12_append 30 = .ok (.invokevirtual 208, 3) := dk_182 0 208 (dk_at dksJ12_append_1 6 rfl rfl)
theorem dJ12_append_33 : decode cJ12_append 33 = .ok (.aload_n 0, 1) := dk_42 (dk_at dksJ12_append_1 9 rfl rfl)
theorem dJ12_append_34 : decode cJ12_append 34 = .ok (.dup, 1) := dk_89 (dk_at dksJ12_append_1 10 rfl rfl)
theorem dJ12_append_35 : decode cJ12_append 35 = .ok (.getfield 79, 3) := dk_180 0 79 (dk_at dksJ12_append_1 11 rfl rfl)
theorem dJ12_append_38 : decode cJ12_append 38 = .ok (.iload_n 2, 1) := dk_28 (dk_at dksJ12_append_1 14 rfl rfl)
theorem dJ12_append_39 : decode cJ12_append 39 = .ok (.iadd, 1) := dk_96 (dk_at dksJ12_append_1 15 rfl rfl)
theorem dJ12_append_40 : decode cJ12_append 40 = .ok (.putfield 79, 3) := dk_181 0 79 (dk_at dksJ12_append_1 16 rfl rfl)
theorem dJ12_append_43 : decode cJ12_append 43 = .ok (.aload_n 0, 1) := dk_42 (dk_at dksJ12_append_1 19 rfl rfl)
theorem dJ12_append_44 : decode cJ12_append 44 = .ok (.areturn, 1) := dk_176 (dk_at dksJ12_append_1 20 rfl rfl)
abbrev cJ12_appendNull : ByteArray := prog_17_method_26_code
def yJ12_appendNull : MethodName := ⟨RJ12, "appendNull", "()Ljava/lang/AbstractStringBuilder;"⟩
def dkwJ12_appendNull_3 : List UInt8 := [184, 0, 226, 60, 42, 27, 181, 0, 79, 42, 176]
abbrev dktJ12_appendNull_3 : List UInt8 := dkwJ12_appendNull_3 ++ []
def dkwJ12_appendNull_2 : List UInt8 := [16, 108, 84, 44, 27, 132, 1, 1, 16, 108, 84, 167, 0, 17, 44, 27, 16, 110, 16, 117, 16, 108, 16, 108]
abbrev dktJ12_appendNull_2 : List UInt8 := dkwJ12_appendNull_2 ++ dktJ12_appendNull_3
def dkwJ12_appendNull_1 : List UInt8 := [153, 0, 38, 44, 27, 132, 1, 1, 16, 110, 84, 44, 27, 132, 1, 1, 16, 117, 84, 44, 27, 132, 1, 1]
abbrev dktJ12_appendNull_1 : List UInt8 := dkwJ12_appendNull_1 ++ dktJ12_appendNull_2
def dkwJ12_appendNull_0 : List UInt8 := [42, 42, 180, 0, 79, 7, 96, 182, 0, 100, 42, 180, 0, 79, 60, 42, 180, 0, 15, 77, 42, 182, 0, 83]
abbrev dktJ12_appendNull_0 : List UInt8 := dkwJ12_appendNull_0 ++ dktJ12_appendNull_1
theorem dksJ12_appendNull_0 : cJ12_appendNull.data.toList.drop 0 = dktJ12_appendNull_0 := by decide +kernel
theorem dksJ12_appendNull_1 : cJ12_appendNull.data.toList.drop 24 = dktJ12_appendNull_1 := dk_seg dksJ12_appendNull_0 24 rfl rfl
theorem dksJ12_appendNull_2 : cJ12_appendNull.data.toList.drop 48 = dktJ12_appendNull_2 := dk_seg dksJ12_appendNull_1 24 rfl rfl
theorem dksJ12_appendNull_3 : cJ12_appendNull.data.toList.drop 72 = dktJ12_appendNull_3 := dk_seg dksJ12_appendNull_2 24 rfl rfl
theorem dJ12_appendNull_0 : decode cJ12_appendNull 0 = .ok (.aload_n 0, 1) := dk_42 (dk_at dksJ12_appendNull_0 0 rfl rfl)
theorem dJ12_appendNull_1 : decode cJ12_appendNull 1 = .ok (.aload_n 0, 1) := dk_42 (dk_at dksJ12_appendNull_0 1 rfl rfl)
theorem dJ12_appendNull_2 : decode cJ12_appendNull 2 = .ok (.getfield 79, 3) := dk_180 0 79 (dk_at dksJ12_appendNull_0 2 rfl rfl)
theorem dJ12_appendNull_5 : decode cJ12_appendNull 5 = .ok (.iconst 4, 1) := dk_7 (dk_at dksJ12_appendNull_0 5 rfl rfl)
theorem dJ12_appendNull_6 : decode cJ12_appendNull 6 = .ok (.iadd, 1) := dk_96 (dk_at dksJ12_appendNull_0 6 rfl rfl)
theorem dJ12_appendNull_7 : decode cJ12_appendNull 7 = .ok (.invokevirtual 100, 3) := dk_182 0 100 (dk_at dksJ12_appendNull_0 7 rfl rfl)
theorem dJ12_appendNull_10 : decode cJ12_appendNull 10 = .ok (.aload_n 0, 1) := dk_42 (dk_at dksJ12_appendNull_0 10 rfl rfl)
theorem dJ12_appendNull_11 : decode cJ12_appendNull 11 = .ok (.getfield 79, 3) := dk_180 0 79 (dk_at dksJ12_appendNull_0 11 rfl rfl)
theorem dJ12_appendNull_14 : decode cJ12_appendNull 14 = .ok (.istore_n 1, 1) := dk_60 (dk_at dksJ12_appendNull_0 14 rfl rfl)
theorem dJ12_appendNull_15 : decode cJ12_appendNull 15 = .ok (.aload_n 0, 1) := dk_42 (dk_at dksJ12_appendNull_0 15 rfl rfl)
theorem dJ12_appendNull_16 : decode cJ12_appendNull 16 = .ok (.getfield 15, 3) := dk_180 0 15 (dk_at dksJ12_appendNull_0 16 rfl rfl)
theorem dJ12_appendNull_19 : decode cJ12_appendNull 19 = .ok (.astore_n 2, 1) := dk_77 (dk_at dksJ12_appendNull_0 19 rfl rfl)
theorem dJ12_appendNull_20 : decode cJ12_appendNull 20 = .ok (.aload_n 0, 1) := dk_42 (dk_at dksJ12_appendNull_0 20 rfl rfl)
theorem dJ12_appendNull_21 : decode cJ12_appendNull 21 = .ok (.invokevirtual 83, 3) := dk_182 0 83 (dk_at dksJ12_appendNull_0 21 rfl rfl)
theorem dJ12_appendNull_24 : decode cJ12_appendNull 24 = .ok (.ifCond .eq 38, 3) := dk_153 0 38 (dk_at dksJ12_appendNull_1 0 rfl rfl)
theorem dJ12_appendNull_27 : decode cJ12_appendNull 27 = .ok (.aload_n 2, 1) := dk_44 (dk_at dksJ12_appendNull_1 3 rfl rfl)
theorem dJ12_appendNull_28 : decode cJ12_appendNull 28 = .ok (.iload_n 1, 1) := dk_27 (dk_at dksJ12_appendNull_1 4 rfl rfl)
theorem dJ12_appendNull_29 : decode cJ12_appendNull 29 = .ok (.iinc 1 1, 3) := dk_132 1 1 (dk_at dksJ12_appendNull_1 5 rfl rfl)
theorem dJ12_appendNull_32 : decode cJ12_appendNull 32 = .ok (.bipush 110, 2) := dk_16 110 (dk_at dksJ12_appendNull_1 8 rfl rfl)
theorem dJ12_appendNull_34 : decode cJ12_appendNull 34 = .ok (.bastore, 1) := dk_84 (dk_at dksJ12_appendNull_1 10 rfl rfl)
theorem dJ12_appendNull_35 : decode cJ12_appendNull 35 = .ok (.aload_n 2, 1) := dk_44 (dk_at dksJ12_appendNull_1 11 rfl rfl)
theorem dJ12_appendNull_36 : decode cJ12_appendNull 36 = .ok (.iload_n 1, 1) := dk_27 (dk_at dksJ12_appendNull_1 12 rfl rfl)
theorem dJ12_appendNull_37 : decode cJ12_appendNull 37 = .ok (.iinc 1 1, 3) := dk_132 1 1 (dk_at dksJ12_appendNull_1 13 rfl rfl)
theorem dJ12_appendNull_40 : decode cJ12_appendNull 40 = .ok (.bipush 117, 2) := dk_16 117 (dk_at dksJ12_appendNull_1 16 rfl rfl)
theorem dJ12_appendNull_42 : decode cJ12_appendNull 42 = .ok (.bastore, 1) := dk_84 (dk_at dksJ12_appendNull_1 18 rfl rfl)
theorem dJ12_appendNull_43 : decode cJ12_appendNull 43 = .ok (.aload_n 2, 1) := dk_44 (dk_at dksJ12_appendNull_1 19 rfl rfl)
theorem dJ12_appendNull_44 : decode cJ12_appendNull 44 = .ok (.iload_n 1, 1) := dk_27 (dk_at dksJ12_appendNull_1 20 rfl rfl)
theorem dJ12_appendNull_45 : decode cJ12_appendNull 45 = .ok (.iinc 1 1, 3) := dk_132 1 1 (dk_at dksJ12_appendNull_1 21 rfl rfl)
theorem dJ12_appendNull_48 : decode cJ12_appendNull 48 = .ok (.bipush 108, 2) := dk_16 108 (dk_at dksJ12_appendNull_2 0 rfl rfl)
theorem dJ12_appendNull_50 : decode cJ12_appendNull 50 = .ok (.bastore, 1) := dk_84 (dk_at dksJ12_appendNull_2 2 rfl rfl)
theorem dJ12_appendNull_51 : decode cJ12_appendNull 51 = .ok (.aload_n 2, 1) := dk_44 (dk_at dksJ12_appendNull_2 3 rfl rfl)
theorem dJ12_appendNull_52 : decode cJ12_appendNull 52 = .ok (.iload_n 1, 1) := dk_27 (dk_at dksJ12_appendNull_2 4 rfl rfl)
theorem dJ12_appendNull_53 : decode cJ12_appendNull 53 = .ok (.iinc 1 1, 3) := dk_132 1 1 (dk_at dksJ12_appendNull_2 5 rfl rfl)
theorem dJ12_appendNull_56 : decode cJ12_appendNull 56 = .ok (.bipush 108, 2) := dk_16 108 (dk_at dksJ12_appendNull_2 8 rfl rfl)
theorem dJ12_appendNull_58 : decode cJ12_appendNull 58 = .ok (.bastore, 1) := dk_84 (dk_at dksJ12_appendNull_2 10 rfl rfl)
theorem dJ12_appendNull_59 : decode cJ12_appendNull 59 = .ok (.goto 17, 3) := dk_167 0 17 (dk_at dksJ12_appendNull_2 11 rfl rfl)
theorem dJ12_appendNull_62 : decode cJ12_appendNull 62 = .ok (.aload_n 2, 1) := dk_44 (dk_at dksJ12_appendNull_2 14 rfl rfl)
theorem dJ12_appendNull_63 : decode cJ12_appendNull 63 = .ok (.iload_n 1, 1) := dk_27 (dk_at dksJ12_appendNull_2 15 rfl rfl)
theorem dJ12_appendNull_64 : decode cJ12_appendNull 64 = .ok (.bipush 110, 2) := dk_16 110 (dk_at dksJ12_appendNull_2 16 rfl rfl)
theorem dJ12_appendNull_66 : decode cJ12_appendNull 66 = .ok (.bipush 117, 2) := dk_16 117 (dk_at dksJ12_appendNull_2 18 rfl rfl)
theorem dJ12_appendNull_68 : decode cJ12_appendNull 68 = .ok (.bipush 108, 2) := dk_16 108 (dk_at dksJ12_appendNull_2 20 rfl rfl)
theorem dJ12_appendNull_70 : decode cJ12_appendNull 70 = .ok (.bipush 108, 2) := dk_16 108 (dk_at dksJ12_appendNull_2 22 rfl rfl)
theorem dJ12_appendNull_72 : decode cJ12_appendNull 72 = .ok (.invokestatic 226, 3) := dk_184 0 226 (dk_at dksJ12_appendNull_3 0 rfl rfl)
theorem dJ12_appendNull_75 : decode cJ12_appendNull 75 = .ok (.istore_n 1, 1) := dk_60 (dk_at dksJ12_appendNull_3 3 rfl rfl)
theorem dJ12_appendNull_76 : decode cJ12_appendNull 76 = .ok (.aload_n 0, 1) := dk_42 (dk_at dksJ12_appendNull_3 4 rfl rfl)
theorem dJ12_appendNull_77 : decode cJ12_appendNull 77 = .ok (.iload_n 1, 1) := dk_27 (dk_at dksJ12_appendNull_3 5 rfl rfl)
theorem dJ12_appendNull_78 : decode cJ12_appendNull 78 = .ok (.putfield 79, 3) := dk_181 0 79 (dk_at dksJ12_appendNull_3 6 rfl rfl)
theorem dJ12_appendNull_81 : decode cJ12_appendNull 81 = .ok (.aload_n 0, 1) := dk_42 (dk_at dksJ12_appendNull_3 9 rfl rfl)
theorem dJ12_appendNull_82 : decode cJ12_appendNull 82 = .ok (.areturn, 1) := dk_176 (dk_at dksJ12_appendNull_3 10 rfl rfl)
abbrev cJ12_ensureCapacityInternal : ByteArray := prog_17_method_9_code
def yJ12_ensureCapacityInternal : MethodName := ⟨RJ12, "ensureCapacityInternal", "(I)V"⟩
def dkwJ12_ensureCapacityInternal_1 : List UInt8 := [182, 0, 104, 42, 180, 0, 22, 120, 184, 0, 108, 181, 0, 15, 177]
abbrev dktJ12_ensureCapacityInternal_1 : List UInt8 := dkwJ12_ensureCapacityInternal_1 ++ []
def dkwJ12_ensureCapacityInternal_0 : List UInt8 := [42, 180, 0, 15, 190, 42, 180, 0, 22, 122, 61, 27, 28, 100, 158, 0, 24, 42, 42, 180, 0, 15, 42, 27]
abbrev dktJ12_ensureCapacityInternal_0 : List UInt8 := dkwJ12_ensureCapacityInternal_0 ++ dktJ12_ensureCapacityInternal_1
theorem dksJ12_ensureCapacityInternal_0 : cJ12_ensureCapacityInternal.data.toList.drop 0 = dktJ12_ensureCapacityInternal_0 := by decide +kernel
theorem dksJ12_ensureCapacityInternal_1 : cJ12_ensureCapacityInternal.data.toList.drop 24 = dktJ12_ensureCapacityInternal_1 := dk_seg dksJ12_ensureCapacityInternal_0 24 rfl rfl
theorem dJ12_ensureCapacityInternal_0 : decode cJ12_ensureCapacityInternal 0 = .ok (.aload_n 0, 1) := dk_42 (dk_at dksJ12_ensureCapacityInternal_0 0 rfl rfl)
theorem dJ12_ensureCapacityInternal_1 : decode cJ12_ensureCapacityInternal 1 = .ok (.getfield 15, 3) := dk_180 0 15 (dk_at dksJ12_ensureCapacityInternal_0 1 rfl rfl)
theorem dJ12_ensureCapacityInternal_4 : decode cJ12_ensureCapacityInternal 4 = .ok (.arraylength, 1) := dk_190 (dk_at dksJ12_ensureCapacityInternal_0 4 rfl rfl)
theorem dJ12_ensureCapacityInternal_5 : decode cJ12_ensureCapacityInternal 5 = .ok (.aload_n 0, 1) := dk_42 (dk_at dksJ12_ensureCapacityInternal_0 5 rfl rfl)
theorem dJ12_ensureCapacityInternal_6 : decode cJ12_ensureCapacityInternal 6 = .ok (.getfield 22, 3) := dk_180 0 22 (dk_at dksJ12_ensureCapacityInternal_0 6 rfl rfl)
theorem dJ12_ensureCapacityInternal_9 : decode cJ12_ensureCapacityInternal 9 = .ok (.ishr, 1) := dk_122 (dk_at dksJ12_ensureCapacityInternal_0 9 rfl rfl)
theorem dJ12_ensureCapacityInternal_10 : decode cJ12_ensureCapacityInternal 10 = .ok (.istore_n 2, 1) := dk_61 (dk_at dksJ12_ensureCapacityInternal_0 10 rfl rfl)
theorem dJ12_ensureCapacityInternal_11 : decode cJ12_ensureCapacityInternal 11 = .ok (.iload_n 1, 1) := dk_27 (dk_at dksJ12_ensureCapacityInternal_0 11 rfl rfl)
theorem dJ12_ensureCapacityInternal_12 : decode cJ12_ensureCapacityInternal 12 = .ok (.iload_n 2, 1) := dk_28 (dk_at dksJ12_ensureCapacityInternal_0 12 rfl rfl)
theorem dJ12_ensureCapacityInternal_13 : decode cJ12_ensureCapacityInternal 13 = .ok (.isub, 1) := dk_100 (dk_at dksJ12_ensureCapacityInternal_0 13 rfl rfl)
theorem dJ12_ensureCapacityInternal_14 : decode cJ12_ensureCapacityInternal 14 = .ok (.ifCond .le 24, 3) := dk_158 0 24 (dk_at dksJ12_ensureCapacityInternal_0 14 rfl rfl)
theorem dJ12_ensureCapacityInternal_17 : decode cJ12_ensureCapacityInternal 17 = .ok (.aload_n 0, 1) := dk_42 (dk_at dksJ12_ensureCapacityInternal_0 17 rfl rfl)
theorem dJ12_ensureCapacityInternal_18 : decode cJ12_ensureCapacityInternal 18 = .ok (.aload_n 0, 1) := dk_42 (dk_at dksJ12_ensureCapacityInternal_0 18 rfl rfl)
theorem dJ12_ensureCapacityInternal_19 : decode cJ12_ensureCapacityInternal 19 = .ok (.getfield 15, 3) := dk_180 0 15 (dk_at dksJ12_ensureCapacityInternal_0 19 rfl rfl)
theorem dJ12_ensureCapacityInternal_22 : decode cJ12_ensureCapacityInternal 22 = .ok (.aload_n 0, 1) := dk_42 (dk_at dksJ12_ensureCapacityInternal_0 22 rfl rfl)
theorem dJ12_ensureCapacityInternal_23 : decode cJ12_ensureCapacityInternal 23 = .ok (.iload_n 1, 1) := dk_27 (dk_at dksJ12_ensureCapacityInternal_0 23 rfl rfl)
theorem dJ12_ensureCapacityInternal_24 : decode cJ12_ensureCapacityInternal 24 = .ok (.invokevirtual 104, 3) := dk_182 0 104 (dk_at dksJ12_ensureCapacityInternal_1 0 rfl rfl)
theorem dJ12_ensureCapacityInternal_27 : decode cJ12_ensureCapacityInternal 27 = .ok (.aload_n 0, 1) := dk_42 (dk_at dksJ12_ensureCapacityInternal_1 3 rfl rfl)
theorem dJ12_ensureCapacityInternal_28 : decode cJ12_ensureCapacityInternal 28 = .ok (.getfield 22, 3) := dk_180 0 22 (dk_at dksJ12_ensureCapacityInternal_1 4 rfl rfl)
theorem dJ12_ensureCapacityInternal_31 : decode cJ12_ensureCapacityInternal 31 = .ok (.ishl, 1) := dk_120 (dk_at dksJ12_ensureCapacityInternal_1 7 rfl rfl)
theorem dJ12_ensureCapacityInternal_32 : decode cJ12_ensureCapacityInternal 32 = .ok (.invokestatic 108, 3) := dk_184 0 108 (dk_at dksJ12_ensureCapacityInternal_1 8 rfl rfl)
theorem dJ12_ensureCapacityInternal_35 : decode cJ12_ensureCapacityInternal 35 = .ok (.putfield 15, 3) := dk_181 0 15 (dk_at dksJ12_ensureCapacityInternal_1 11 rfl rfl)
theorem dJ12_ensureCapacityInternal_38 : decode cJ12_ensureCapacityInternal 38 = .ok (.return_, 1) := dk_177 (dk_at dksJ12_ensureCapacityInternal_1 14 rfl rfl)
abbrev cJ12_newCapacity : ByteArray := prog_17_method_10_code
def yJ12_newCapacity : MethodName := ⟨RJ12, "newCapacity", "(I)I"⟩
def dkwJ12_newCapacity_2 : List UInt8 := [183, 0, 124, 191, 21, 5, 42, 180, 0, 22, 122, 172]
abbrev dktJ12_newCapacity_2 : List UInt8 := dkwJ12_newCapacity_2 ++ []
def dkwJ12_newCapacity_1 : List UInt8 := [180, 0, 22, 120, 96, 184, 0, 114, 54, 5, 21, 5, 18, 39, 160, 0, 13, 187, 0, 120, 89, 18, 122]
abbrev dktJ12_newCapacity_1 : List UInt8 := dkwJ12_newCapacity_1 ++ dktJ12_newCapacity_2
def dkwJ12_newCapacity_0 : List UInt8 := [42, 180, 0, 15, 190, 61, 27, 42, 180, 0, 22, 120, 62, 29, 28, 100, 54, 4, 28, 21, 4, 28, 5, 42]
abbrev dktJ12_newCapacity_0 : List UInt8 := dkwJ12_newCapacity_0 ++ dktJ12_newCapacity_1
theorem dksJ12_newCapacity_0 : cJ12_newCapacity.data.toList.drop 0 = dktJ12_newCapacity_0 := by decide +kernel
theorem dksJ12_newCapacity_1 : cJ12_newCapacity.data.toList.drop 24 = dktJ12_newCapacity_1 := dk_seg dksJ12_newCapacity_0 24 rfl rfl
theorem dksJ12_newCapacity_2 : cJ12_newCapacity.data.toList.drop 47 = dktJ12_newCapacity_2 := dk_seg dksJ12_newCapacity_1 23 rfl rfl
theorem dJ12_newCapacity_0 : decode cJ12_newCapacity 0 = .ok (.aload_n 0, 1) := dk_42 (dk_at dksJ12_newCapacity_0 0 rfl rfl)
theorem dJ12_newCapacity_1 : decode cJ12_newCapacity 1 = .ok (.getfield 15, 3) := dk_180 0 15 (dk_at dksJ12_newCapacity_0 1 rfl rfl)
theorem dJ12_newCapacity_4 : decode cJ12_newCapacity 4 = .ok (.arraylength, 1) := dk_190 (dk_at dksJ12_newCapacity_0 4 rfl rfl)
theorem dJ12_newCapacity_5 : decode cJ12_newCapacity 5 = .ok (.istore_n 2, 1) := dk_61 (dk_at dksJ12_newCapacity_0 5 rfl rfl)
theorem dJ12_newCapacity_6 : decode cJ12_newCapacity 6 = .ok (.iload_n 1, 1) := dk_27 (dk_at dksJ12_newCapacity_0 6 rfl rfl)
theorem dJ12_newCapacity_7 : decode cJ12_newCapacity 7 = .ok (.aload_n 0, 1) := dk_42 (dk_at dksJ12_newCapacity_0 7 rfl rfl)
theorem dJ12_newCapacity_8 : decode cJ12_newCapacity 8 = .ok (.getfield 22, 3) := dk_180 0 22 (dk_at dksJ12_newCapacity_0 8 rfl rfl)
theorem dJ12_newCapacity_11 : decode cJ12_newCapacity 11 = .ok (.ishl, 1) := dk_120 (dk_at dksJ12_newCapacity_0 11 rfl rfl)
theorem dJ12_newCapacity_12 : decode cJ12_newCapacity 12 = .ok (.istore_n 3, 1) := dk_62 (dk_at dksJ12_newCapacity_0 12 rfl rfl)
theorem dJ12_newCapacity_13 : decode cJ12_newCapacity 13 = .ok (.iload_n 3, 1) := dk_29 (dk_at dksJ12_newCapacity_0 13 rfl rfl)
theorem dJ12_newCapacity_14 : decode cJ12_newCapacity 14 = .ok (.iload_n 2, 1) := dk_28 (dk_at dksJ12_newCapacity_0 14 rfl rfl)
theorem dJ12_newCapacity_15 : decode cJ12_newCapacity 15 = .ok (.isub, 1) := dk_100 (dk_at dksJ12_newCapacity_0 15 rfl rfl)
theorem dJ12_newCapacity_16 : decode cJ12_newCapacity 16 = .ok (.istore 4, 2) := dk_54 4 (dk_at dksJ12_newCapacity_0 16 rfl rfl)
theorem dJ12_newCapacity_18 : decode cJ12_newCapacity 18 = .ok (.iload_n 2, 1) := dk_28 (dk_at dksJ12_newCapacity_0 18 rfl rfl)
theorem dJ12_newCapacity_19 : decode cJ12_newCapacity 19 = .ok (.iload 4, 2) := dk_21 4 (dk_at dksJ12_newCapacity_0 19 rfl rfl)
theorem dJ12_newCapacity_21 : decode cJ12_newCapacity 21 = .ok (.iload_n 2, 1) := dk_28 (dk_at dksJ12_newCapacity_0 21 rfl rfl)
theorem dJ12_newCapacity_22 : decode cJ12_newCapacity 22 = .ok (.iconst 2, 1) := dk_5 (dk_at dksJ12_newCapacity_0 22 rfl rfl)
theorem dJ12_newCapacity_23 : decode cJ12_newCapacity 23 = .ok (.aload_n 0, 1) := dk_42 (dk_at dksJ12_newCapacity_0 23 rfl rfl)
theorem dJ12_newCapacity_24 : decode cJ12_newCapacity 24 = .ok (.getfield 22, 3) := dk_180 0 22 (dk_at dksJ12_newCapacity_1 0 rfl rfl)
theorem dJ12_newCapacity_27 : decode cJ12_newCapacity 27 = .ok (.ishl, 1) := dk_120 (dk_at dksJ12_newCapacity_1 3 rfl rfl)
theorem dJ12_newCapacity_28 : decode cJ12_newCapacity 28 = .ok (.iadd, 1) := dk_96 (dk_at dksJ12_newCapacity_1 4 rfl rfl)
theorem dJ12_newCapacity_29 : decode cJ12_newCapacity 29 = .ok (.invokestatic 114, 3) := dk_184 0 114 (dk_at dksJ12_newCapacity_1 5 rfl rfl)
theorem dJ12_newCapacity_32 : decode cJ12_newCapacity 32 = .ok (.istore 5, 2) := dk_54 5 (dk_at dksJ12_newCapacity_1 8 rfl rfl)
theorem dJ12_newCapacity_34 : decode cJ12_newCapacity 34 = .ok (.iload 5, 2) := dk_21 5 (dk_at dksJ12_newCapacity_1 10 rfl rfl)
theorem dJ12_newCapacity_36 : decode cJ12_newCapacity 36 = .ok (.ldc 39, 2) := dk_18 39 (dk_at dksJ12_newCapacity_1 12 rfl rfl)
theorem dJ12_newCapacity_38 : decode cJ12_newCapacity 38 = .ok (.if_icmp .ne 13, 3) := dk_160 0 13 (dk_at dksJ12_newCapacity_1 14 rfl rfl)
theorem dJ12_newCapacity_41 : decode cJ12_newCapacity 41 = .ok (.new 120, 3) := dk_187 0 120 (dk_at dksJ12_newCapacity_1 17 rfl rfl)
theorem dJ12_newCapacity_44 : decode cJ12_newCapacity 44 = .ok (.dup, 1) := dk_89 (dk_at dksJ12_newCapacity_1 20 rfl rfl)
theorem dJ12_newCapacity_45 : decode cJ12_newCapacity 45 = .ok (.ldc 122, 2) := dk_18 122 (dk_at dksJ12_newCapacity_1 21 rfl rfl)
theorem dJ12_newCapacity_47 : decode cJ12_newCapacity 47 = .ok (.invokespecial 124, 3) := dk_183 0 124 (dk_at dksJ12_newCapacity_2 0 rfl rfl)
theorem dJ12_newCapacity_50 : decode cJ12_newCapacity 50 = .ok (.athrow, 1) := dk_191 (dk_at dksJ12_newCapacity_2 3 rfl rfl)
theorem dJ12_newCapacity_51 : decode cJ12_newCapacity 51 = .ok (.iload 5, 2) := dk_21 5 (dk_at dksJ12_newCapacity_2 4 rfl rfl)
theorem dJ12_newCapacity_53 : decode cJ12_newCapacity 53 = .ok (.aload_n 0, 1) := dk_42 (dk_at dksJ12_newCapacity_2 6 rfl rfl)
theorem dJ12_newCapacity_54 : decode cJ12_newCapacity 54 = .ok (.getfield 22, 3) := dk_180 0 22 (dk_at dksJ12_newCapacity_2 7 rfl rfl)
theorem dJ12_newCapacity_57 : decode cJ12_newCapacity 57 = .ok (.ishr, 1) := dk_122 (dk_at dksJ12_newCapacity_2 10 rfl rfl)
theorem dJ12_newCapacity_58 : decode cJ12_newCapacity 58 = .ok (.ireturn, 1) := dk_172 (dk_at dksJ12_newCapacity_2 11 rfl rfl)
abbrev cJ12_isLatin1 : ByteArray := prog_17_method_68_code
def yJ12_isLatin1 : MethodName := ⟨RJ12, "isLatin1", "()Z"⟩
def dkwJ12_isLatin1_0 : List UInt8 := [178, 0, 18, 153, 0, 14, 42, 180, 0, 22, 154, 0, 7, 4, 167, 0, 4, 3, 172]
abbrev dktJ12_isLatin1_0 : List UInt8 := dkwJ12_isLatin1_0 ++ []
theorem dksJ12_isLatin1_0 : cJ12_isLatin1.data.toList.drop 0 = dktJ12_isLatin1_0 := by decide +kernel
theorem dJ12_isLatin1_0 : decode cJ12_isLatin1 0 = .ok (.getstatic 18, 3) := dk_178 0 18 (dk_at dksJ12_isLatin1_0 0 rfl rfl)
theorem dJ12_isLatin1_3 : decode cJ12_isLatin1 3 = .ok (.ifCond .eq 14, 3) := dk_153 0 14 (dk_at dksJ12_isLatin1_0 3 rfl rfl)
theorem dJ12_isLatin1_6 : decode cJ12_isLatin1 6 = .ok (.aload_n 0, 1) := dk_42 (dk_at dksJ12_isLatin1_0 6 rfl rfl)
theorem dJ12_isLatin1_7 : decode cJ12_isLatin1 7 = .ok (.getfield 22, 3) := dk_180 0 22 (dk_at dksJ12_isLatin1_0 7 rfl rfl)
theorem dJ12_isLatin1_10 : decode cJ12_isLatin1 10 = .ok (.ifCond .ne 7, 3) := dk_154 0 7 (dk_at dksJ12_isLatin1_0 10 rfl rfl)
theorem dJ12_isLatin1_13 : decode cJ12_isLatin1 13 = .ok (.iconst 1, 1) := dk_4 (dk_at dksJ12_isLatin1_0 13 rfl rfl)
theorem dJ12_isLatin1_14 : decode cJ12_isLatin1 14 = .ok (.goto 4, 3) := dk_167 0 4 (dk_at dksJ12_isLatin1_0 14 rfl rfl)
theorem dJ12_isLatin1_17 : decode cJ12_isLatin1 17 = .ok (.iconst 0, 1) := dk_3 (dk_at dksJ12_isLatin1_0 17 rfl rfl)
theorem dJ12_isLatin1_18 : decode cJ12_isLatin1 18 = .ok (.ireturn, 1) := dk_172 (dk_at dksJ12_isLatin1_0 18 rfl rfl)
abbrev cJ12_putStringAt : ByteArray := prog_17_method_73_code
def yJ12_putStringAt : MethodName := ⟨RJ12, "putStringAt", "(ILjava/lang/String;)V"⟩
def dkwJ12_putStringAt_0 : List UInt8 := [42, 44, 182, 1, 141, 44, 42, 180, 0, 15, 27, 42, 180, 0, 22, 182, 1, 143, 177]
abbrev dktJ12_putStringAt_0 : List UInt8 := dkwJ12_putStringAt_0 ++ []
theorem dksJ12_putStringAt_0 : cJ12_putStringAt.data.toList.drop 0 = dktJ12_putStringAt_0 := by decide +kernel
theorem dJ12_putStringAt_0 : decode cJ12_putStringAt 0 = .ok (.aload_n 0, 1) := dk_42 (dk_at dksJ12_putStringAt_0 0 rfl rfl)
theorem dJ12_putStringAt_1 : decode cJ12_putStringAt 1 = .ok (.aload_n 2, 1) := dk_44 (dk_at dksJ12_putStringAt_0 1 rfl rfl)
theorem dJ12_putStringAt_2 : decode cJ12_putStringAt 2 = .ok (.invokevirtual 397, 3) := dk_182 1 141 (dk_at dksJ12_putStringAt_0 2 rfl rfl)
theorem dJ12_putStringAt_5 : decode cJ12_putStringAt 5 = .ok (.aload_n 2, 1) := dk_44 (dk_at dksJ12_putStringAt_0 5 rfl rfl)
theorem dJ12_putStringAt_6 : decode cJ12_putStringAt 6 = .ok (.aload_n 0, 1) := dk_42 (dk_at dksJ12_putStringAt_0 6 rfl rfl)
theorem dJ12_putStringAt_7 : decode cJ12_putStringAt 7 = .ok (.getfield 15, 3) := dk_180 0 15 (dk_at dksJ12_putStringAt_0 7 rfl rfl)
theorem dJ12_putStringAt_10 : decode cJ12_putStringAt 10 = .ok (.iload_n 1, 1) := dk_27 (dk_at dksJ12_putStringAt_0 10 rfl rfl)
theorem dJ12_putStringAt_11 : decode cJ12_putStringAt 11 = .ok (.aload_n 0, 1) := dk_42 (dk_at dksJ12_putStringAt_0 11 rfl rfl)
theorem dJ12_putStringAt_12 : decode cJ12_putStringAt 12 = .ok (.getfield 22, 3) := dk_180 0 22 (dk_at dksJ12_putStringAt_0 12 rfl rfl)
theorem dJ12_putStringAt_15 : decode cJ12_putStringAt 15 = .ok (.invokevirtual 399, 3) := dk_182 1 143 (dk_at dksJ12_putStringAt_0 15 rfl rfl)
theorem dJ12_putStringAt_18 : decode cJ12_putStringAt 18 = .ok (.return_, 1) := dk_177 (dk_at dksJ12_putStringAt_0 18 rfl rfl)
abbrev cJ12_inflateIfNeededFor : ByteArray := prog_17_method_71_code
def yJ12_inflateIfNeededFor : MethodName := ⟨RJ12, "inflateIfNeededFor", "(Ljava/lang/String;)V"⟩
def dkwJ12_inflateIfNeededFor_0 : List UInt8 := [178, 0, 18, 153, 0, 18, 42, 180, 0, 22, 43, 182, 0, 40, 159, 0, 7, 42, 182, 0, 195, 177]
abbrev dktJ12_inflateIfNeededFor_0 : List UInt8 := dkwJ12_inflateIfNeededFor_0 ++ []
theorem dksJ12_inflateIfNeededFor_0 : cJ12_inflateIfNeededFor.data.toList.drop 0 = dktJ12_inflateIfNeededFor_0 := by decide +kernel
theorem dJ12_inflateIfNeededFor_0 : decode cJ12_inflateIfNeededFor 0 = .ok (.getstatic 18, 3) := dk_178 0 18 (dk_at dksJ12_inflateIfNeededFor_0 0 rfl rfl)
theorem dJ12_inflateIfNeededFor_3 : decode cJ12_inflateIfNeededFor 3 = .ok (.ifCond .eq 18, 3) := dk_153 0 18 (dk_at dksJ12_inflateIfNeededFor_0 3 rfl rfl)
theorem dJ12_inflateIfNeededFor_6 : decode cJ12_inflateIfNeededFor 6 = .ok (.aload_n 0, 1) := dk_42 (dk_at dksJ12_inflateIfNeededFor_0 6 rfl rfl)
theorem dJ12_inflateIfNeededFor_7 : decode cJ12_inflateIfNeededFor 7 = .ok (.getfield 22, 3) := dk_180 0 22 (dk_at dksJ12_inflateIfNeededFor_0 7 rfl rfl)
theorem dJ12_inflateIfNeededFor_10 : decode cJ12_inflateIfNeededFor 10 = .ok (.aload_n 1, 1) := dk_43 (dk_at dksJ12_inflateIfNeededFor_0 10 rfl rfl)
theorem dJ12_inflateIfNeededFor_11 : decode cJ12_inflateIfNeededFor 11 = .ok (.invokevirtual 40, 3) := dk_182 0 40 (dk_at dksJ12_inflateIfNeededFor_0 11 rfl rfl)
theorem dJ12_inflateIfNeededFor_14 : decode cJ12_inflateIfNeededFor 14 = .ok (.if_icmp .eq 7, 3) := dk_159 0 7 (dk_at dksJ12_inflateIfNeededFor_0 14 rfl rfl)
theorem dJ12_inflateIfNeededFor_17 : decode cJ12_inflateIfNeededFor 17 = .ok (.aload_n 0, 1) := dk_42 (dk_at dksJ12_inflateIfNeededFor_0 17 rfl rfl)
theorem dJ12_inflateIfNeededFor_18 : decode cJ12_inflateIfNeededFor 18 = .ok (.invokevirtual 195, 3) := dk_182 0 195 (dk_at dksJ12_inflateIfNeededFor_0 18 rfl rfl)
theorem dJ12_inflateIfNeededFor_21 : decode cJ12_inflateIfNeededFor 21 = .ok (.return_, 1) := dk_177 (dk_at dksJ12_inflateIfNeededFor_0 21 rfl rfl)
abbrev cJ12_inflate : ByteArray := prog_17_method_11_code
def yJ12_inflate : MethodName := ⟨RJ12, "inflate", "()V"⟩
def dkwJ12_inflate_1 : List UInt8 := [42, 180, 0, 79, 184, 0, 125, 42, 43, 181, 0, 15, 42, 4, 181, 0, 22, 177]
abbrev dktJ12_inflate_1 : List UInt8 := dkwJ12_inflate_1 ++ []
def dkwJ12_inflate_0 : List UInt8 := [42, 182, 0, 83, 154, 0, 4, 177, 42, 180, 0, 15, 190, 184, 0, 26, 76, 42, 180, 0, 15, 3, 43, 3]
abbrev dktJ12_inflate_0 : List UInt8 := dkwJ12_inflate_0 ++ dktJ12_inflate_1
theorem dksJ12_inflate_0 : cJ12_inflate.data.toList.drop 0 = dktJ12_inflate_0 := by decide +kernel
theorem dksJ12_inflate_1 : cJ12_inflate.data.toList.drop 24 = dktJ12_inflate_1 := dk_seg dksJ12_inflate_0 24 rfl rfl
theorem dJ12_inflate_0 : decode cJ12_inflate 0 = .ok (.aload_n 0, 1) := dk_42 (dk_at dksJ12_inflate_0 0 rfl rfl)
theorem dJ12_inflate_1 : decode cJ12_inflate 1 = .ok (.invokevirtual 83, 3) := dk_182 0 83 (dk_at dksJ12_inflate_0 1 rfl rfl)
theorem dJ12_inflate_4 : decode cJ12_inflate 4 = .ok (.ifCond .ne 4, 3) := dk_154 0 4 (dk_at dksJ12_inflate_0 4 rfl rfl)
theorem dJ12_inflate_7 : decode cJ12_inflate 7 = .ok (.return_, 1) := dk_177 (dk_at dksJ12_inflate_0 7 rfl rfl)
theorem dJ12_inflate_8 : decode cJ12_inflate 8 = .ok (.aload_n 0, 1) := dk_42 (dk_at dksJ12_inflate_0 8 rfl rfl)
theorem dJ12_inflate_9 : decode cJ12_inflate 9 = .ok (.getfield 15, 3) := dk_180 0 15 (dk_at dksJ12_inflate_0 9 rfl rfl)
theorem dJ12_inflate_12 : decode cJ12_inflate 12 = .ok (.arraylength, 1) := dk_190 (dk_at dksJ12_inflate_0 12 rfl rfl)
theorem dJ12_inflate_13 : decode cJ12_inflate 13 = .ok (.invokestatic 26, 3) := dk_184 0 26 (dk_at dksJ12_inflate_0 13 rfl rfl)
theorem dJ12_inflate_16 : decode cJ12_inflate 16 = .ok (.astore_n 1, 1) := dk_76 (dk_at dksJ12_inflate_0 16 rfl rfl)
theorem dJ12_inflate_17 : decode cJ12_inflate 17 = .ok (.aload_n 0, 1) := dk_42 (dk_at dksJ12_inflate_0 17 rfl rfl)
theorem dJ12_inflate_18 : decode cJ12_inflate 18 = .ok (.getfield 15, 3) := dk_180 0 15 (dk_at dksJ12_inflate_0 18 rfl rfl)
theorem dJ12_inflate_21 : decode cJ12_inflate 21 = .ok (.iconst 0, 1) := dk_3 (dk_at dksJ12_inflate_0 21 rfl rfl)
theorem dJ12_inflate_22 : decode cJ12_inflate 22 = .ok (.aload_n 1, 1) := dk_43 (dk_at dksJ12_inflate_0 22 rfl rfl)
theorem dJ12_inflate_23 : decode cJ12_inflate 23 = .ok (.iconst 0, 1) := dk_3 (dk_at dksJ12_inflate_0 23 rfl rfl)
theorem dJ12_inflate_24 : decode cJ12_inflate 24 = .ok (.aload_n 0, 1) := dk_42 (dk_at dksJ12_inflate_1 0 rfl rfl)
theorem dJ12_inflate_25 : decode cJ12_inflate 25 = .ok (.getfield 79, 3) := dk_180 0 79 (dk_at dksJ12_inflate_1 1 rfl rfl)
theorem dJ12_inflate_28 : decode cJ12_inflate 28 = .ok (.invokestatic 125, 3) := dk_184 0 125 (dk_at dksJ12_inflate_1 4 rfl rfl)
theorem dJ12_inflate_31 : decode cJ12_inflate 31 = .ok (.aload_n 0, 1) := dk_42 (dk_at dksJ12_inflate_1 7 rfl rfl)
theorem dJ12_inflate_32 : decode cJ12_inflate 32 = .ok (.aload_n 1, 1) := dk_43 (dk_at dksJ12_inflate_1 8 rfl rfl)
theorem dJ12_inflate_33 : decode cJ12_inflate 33 = .ok (.putfield 15, 3) := dk_181 0 15 (dk_at dksJ12_inflate_1 9 rfl rfl)
theorem dJ12_inflate_36 : decode cJ12_inflate 36 = .ok (.aload_n 0, 1) := dk_42 (dk_at dksJ12_inflate_1 12 rfl rfl)
theorem dJ12_inflate_37 : decode cJ12_inflate 37 = .ok (.iconst 1, 1) := dk_4 (dk_at dksJ12_inflate_1 13 rfl rfl)
theorem dJ12_inflate_38 : decode cJ12_inflate 38 = .ok (.putfield 22, 3) := dk_181 0 22 (dk_at dksJ12_inflate_1 14 rfl rfl)
theorem dJ12_inflate_41 : decode cJ12_inflate 41 = .ok (.return_, 1) := dk_177 (dk_at dksJ12_inflate_1 17 rfl rfl)
abbrev cJ12_append_2 : ByteArray := prog_17_method_32_code
def yJ12_append_2 : MethodName := ⟨RJ12, "append", "(I)Ljava/lang/AbstractStringBuilder;"⟩
def dkwJ12_append_2_2 : List UInt8 := [42, 29, 181, 0, 79, 42, 176]
abbrev dktJ12_append_2_2 : List UInt8 := dkwJ12_append_2_2 ++ []
def dkwJ12_append_2_1 : List UInt8 := [27, 29, 42, 180, 0, 15, 184, 0, 248, 87, 167, 0, 14, 27, 28, 29, 42, 180, 0, 15, 184, 0, 251, 87]
abbrev dktJ12_append_2_1 : List UInt8 := dkwJ12_append_2_1 ++ dktJ12_append_2_2
def dkwJ12_append_2_0 : List UInt8 := [42, 180, 0, 79, 61, 28, 27, 184, 0, 245, 96, 62, 42, 29, 182, 0, 100, 42, 182, 0, 83, 153, 0, 16]
abbrev dktJ12_append_2_0 : List UInt8 := dkwJ12_append_2_0 ++ dktJ12_append_2_1
theorem dksJ12_append_2_0 : cJ12_append_2.data.toList.drop 0 = dktJ12_append_2_0 := by decide +kernel
theorem dksJ12_append_2_1 : cJ12_append_2.data.toList.drop 24 = dktJ12_append_2_1 := dk_seg dksJ12_append_2_0 24 rfl rfl
theorem dksJ12_append_2_2 : cJ12_append_2.data.toList.drop 48 = dktJ12_append_2_2 := dk_seg dksJ12_append_2_1 24 rfl rfl
theorem dJ12_append_2_0 : decode cJ12_append_2 0 = .ok (.aload_n 0, 1) := dk_42 (dk_at dksJ12_append_2_0 0 rfl rfl)
theorem dJ12_append_2_1 : decode cJ12_append_2 1 = .ok (.getfield 79, 3) := dk_180 0 79 (dk_at dksJ12_append_2_0 1 rfl rfl)
theorem dJ12_append_2_4 : decode cJ12_append_2 4 = .ok (.istore_n 2, 1) := dk_61 (dk_at dksJ12_append_2_0 4 rfl rfl)
theorem dJ12_append_2_5 : decode cJ12_append_2 5 = .ok (.iload_n 2, 1) := dk_28 (dk_at dksJ12_append_2_0 5 rfl rfl)
theorem dJ12_append_2_6 : decode cJ12_append_2 6 = .ok (.iload_n 1, 1) := dk_27 (dk_at dksJ12_append_2_0 6 rfl rfl)
theorem dJ12_append_2_7 : decode cJ12_append_2 7 = .ok (.invokestatic 245, 3) := dk_184 0 245 (dk_at dksJ12_append_2_0 7 rfl rfl)
theorem dJ12_append_2_10 : decode cJ12_append_2 10 = .ok (.iadd, 1) := dk_96 (dk_at dksJ12_append_2_0 10 rfl rfl)
theorem dJ12_append_2_11 : decode cJ12_append_2 11 = .ok (.istore_n 3, 1) := dk_62 (dk_at dksJ12_append_2_0 11 rfl rfl)
theorem dJ12_append_2_12 : decode cJ12_append_2 12 = .ok (.aload_n 0, 1) := dk_42 (dk_at dksJ12_append_2_0 12 rfl rfl)
theorem dJ12_append_2_13 : decode cJ12_append_2 13 = .ok (.iload_n 3, 1) := dk_29 (dk_at dksJ12_append_2_0 13 rfl rfl)
theorem dJ12_append_2_14 : decode cJ12_append_2 14 = .ok (.invokevirtual 100, 3) := dk_182 0 100 (dk_at dksJ12_append_2_0 14 rfl rfl)
theorem dJ12_append_2_17 : decode cJ12_append_2 17 = .ok (.aload_n 0, 1) := dk_42 (dk_at dksJ12_append_2_0 17 rfl rfl)
theorem dJ12_append_2_18 : decode cJ12_append_2 18 = .ok (.invokevirtual 83, 3) := dk_182 0 83 (dk_at dksJ12_append_2_0 18 rfl rfl)
theorem dJ12_append_2_21 : decode cJ12_append_2 21 = .ok (.ifCond .eq 16, 3) := dk_153 0 16 (dk_at dksJ12_append_2_0 21 rfl rfl)
theorem dJ12_append_2_24 : decode cJ12_append_2 24 = .ok (.iload_n 1, 1) := dk_27 (dk_at dksJ12_append_2_1 0 rfl rfl)
theorem dJ12_append_2_25 : decode cJ12_append_2 25 = .ok (.iload_n 3, 1) := dk_29 (dk_at dksJ12_append_2_1 1 rfl rfl)
theorem dJ12_append_2_26 : decode cJ12_append_2 26 = .ok (.aload_n 0, 1) := dk_42 (dk_at dksJ12_append_2_1 2 rfl rfl)
theorem dJ12_append_2_27 : decode cJ12_append_2 27 = .ok (.getfield 15, 3) := dk_180 0 15 (dk_at dksJ12_append_2_1 3 rfl rfl)
theorem dJ12_append_2_30 : decode cJ12_append_2 30 = .ok (.invokestatic 248, 3) := dk_184 0 248 (dk_at dksJ12_append_2_1 6 rfl rfl)
theorem dJ12_append_2_33 : decode cJ12_append_2 33 = .ok (.pop, 1) := dk_87 (dk_at dksJ12_append_2_1 9 rfl rfl)
theorem dJ12_append_2_34 : decode cJ12_append_2 34 = .ok (.goto 14, 3) := dk_167 0 14 (dk_at dksJ12_append_2_1 10 rfl rfl)
theorem dJ12_append_2_37 : decode cJ12_append_2 37 = .ok (.iload_n 1, 1) := dk_27 (dk_at dksJ12_append_2_1 13 rfl rfl)
theorem dJ12_append_2_38 : decode cJ12_append_2 38 = .ok (.iload_n 2, 1) := dk_28 (dk_at dksJ12_append_2_1 14 rfl rfl)
theorem dJ12_append_2_39 : decode cJ12_append_2 39 = .ok (.iload_n 3, 1) := dk_29 (dk_at dksJ12_append_2_1 15 rfl rfl)
theorem dJ12_append_2_40 : decode cJ12_append_2 40 = .ok (.aload_n 0, 1) := dk_42 (dk_at dksJ12_append_2_1 16 rfl rfl)
theorem dJ12_append_2_41 : decode cJ12_append_2 41 = .ok (.getfield 15, 3) := dk_180 0 15 (dk_at dksJ12_append_2_1 17 rfl rfl)
theorem dJ12_append_2_44 : decode cJ12_append_2 44 = .ok (.invokestatic 251, 3) := dk_184 0 251 (dk_at dksJ12_append_2_1 20 rfl rfl)
theorem dJ12_append_2_47 : decode cJ12_append_2 47 = .ok (.pop, 1) := dk_87 (dk_at dksJ12_append_2_1 23 rfl rfl)
theorem dJ12_append_2_48 : decode cJ12_append_2 48 = .ok (.aload_n 0, 1) := dk_42 (dk_at dksJ12_append_2_2 0 rfl rfl)
theorem dJ12_append_2_49 : decode cJ12_append_2 49 = .ok (.iload_n 3, 1) := dk_29 (dk_at dksJ12_append_2_2 1 rfl rfl)
theorem dJ12_append_2_50 : decode cJ12_append_2 50 = .ok (.putfield 79, 3) := dk_181 0 79 (dk_at dksJ12_append_2_2 2 rfl rfl)
theorem dJ12_append_2_53 : decode cJ12_append_2 53 = .ok (.aload_n 0, 1) := dk_42 (dk_at dksJ12_append_2_2 5 rfl rfl)
theorem dJ12_append_2_54 : decode cJ12_append_2 54 = .ok (.areturn, 1) := dk_176 (dk_at dksJ12_append_2_2 6 rfl rfl)
abbrev cJ12_getValue : ByteArray := prog_17_method_64_code
def yJ12_getValue : MethodName := ⟨RJ12, "getValue", "()[B"⟩
theorem dJ12_getValue_0 : decode cJ12_getValue 0 = .ok (.aload_n 0, 1) := by decide +kernel
theorem dJ12_getValue_1 : decode cJ12_getValue 1 = .ok (.getfield 15, 3) := by decide +kernel
theorem dJ12_getValue_4 : decode cJ12_getValue 4 = .ok (.areturn, 1) := by decide +kernel
abbrev cJ12_length : ByteArray := prog_17_method_6_code
def yJ12_length : MethodName := ⟨RJ12, "length", "()I"⟩
theorem dJ12_length_0 : decode cJ12_length 0 = .ok (.aload_n 0, 1) := by decide +kernel
theorem dJ12_length_1 : decode cJ12_length 1 = .ok (.getfield 79, 3) := by decide +kernel
theorem dJ12_length_4 : decode cJ12_length 4 = .ok (.ireturn, 1) := by decide +kernel
abbrev cJ12_compareTo : ByteArray := prog_17_method_5_code
def yJ12_compareTo : MethodName := ⟨RJ12, "compareTo", "(Ljava/lang/AbstractStringBuilder;)I"⟩
def dkwJ12_compareTo_4 : List UInt8 := [184, 0, 97, 172]
abbrev dktJ12_compareTo_4 : List UInt8 := dkwJ12_compareTo_4 ++ []
def dkwJ12_compareTo_3 : List UInt8 := [182, 0, 83, 153, 0, 15, 44, 45, 21, 4, 21, 5, 184, 0, 94, 167, 0, 12, 44, 45, 21, 4, 21, 5]
abbrev dktJ12_compareTo_3 : List UInt8 := dkwJ12_compareTo_3 ++ dktJ12_compareTo_4
def dkwJ12_compareTo_2 : List UInt8 := [45, 21, 4, 21, 5, 184, 0, 87, 167, 0, 12, 44, 45, 21, 4, 21, 5, 184, 0, 93, 172, 42]
abbrev dktJ12_compareTo_2 : List UInt8 := dkwJ12_compareTo_2 ++ dktJ12_compareTo_3
def dkwJ12_compareTo_1 : List UInt8 := [180, 0, 79, 54, 5, 42, 180, 0, 22, 43, 180, 0, 22, 160, 0, 32, 42, 182, 0, 83, 153, 0, 15, 44]
abbrev dktJ12_compareTo_1 : List UInt8 := dkwJ12_compareTo_1 ++ dktJ12_compareTo_2
def dkwJ12_compareTo_0 : List UInt8 := [42, 43, 166, 0, 5, 3, 172, 42, 180, 0, 15, 77, 43, 180, 0, 15, 78, 42, 180, 0, 79, 54, 4, 43]
abbrev dktJ12_compareTo_0 : List UInt8 := dkwJ12_compareTo_0 ++ dktJ12_compareTo_1
theorem dksJ12_compareTo_0 : cJ12_compareTo.data.toList.drop 0 = dktJ12_compareTo_0 := by decide +kernel
theorem dksJ12_compareTo_1 : cJ12_compareTo.data.toList.drop 24 = dktJ12_compareTo_1 := dk_seg dksJ12_compareTo_0 24 rfl rfl
theorem dksJ12_compareTo_2 : cJ12_compareTo.data.toList.drop 48 = dktJ12_compareTo_2 := dk_seg dksJ12_compareTo_1 24 rfl rfl
theorem dksJ12_compareTo_3 : cJ12_compareTo.data.toList.drop 70 = dktJ12_compareTo_3 := dk_seg dksJ12_compareTo_2 22 rfl rfl
theorem dksJ12_compareTo_4 : cJ12_compareTo.data.toList.drop 94 = dktJ12_compareTo_4 := dk_seg dksJ12_compareTo_3 24 rfl rfl
theorem dJ12_compareTo_0 : decode cJ12_compareTo 0 = .ok (.aload_n 0, 1) := dk_42 (dk_at dksJ12_compareTo_0 0 rfl rfl)
theorem dJ12_compareTo_1 : decode cJ12_compareTo 1 = .ok (.aload_n 1, 1) := dk_43 (dk_at dksJ12_compareTo_0 1 rfl rfl)
theorem dJ12_compareTo_2 : decode cJ12_compareTo 2 = .ok (.if_acmp .ne 5, 3) := dk_166 0 5 (dk_at dksJ12_compareTo_0 2 rfl rfl)
theorem dJ12_compareTo_5 : decode cJ12_compareTo 5 = .ok (.iconst 0, 1) := dk_3 (dk_at dksJ12_compareTo_0 5 rfl rfl)
theorem dJ12_compareTo_6 : decode cJ12_compareTo 6 = .ok (.ireturn, 1) := dk_172 (dk_at dksJ12_compareTo_0 6 rfl rfl)
theorem dJ12_compareTo_7 : decode cJ12_compareTo 7 = .ok (.aload_n 0, 1) := dk_42 (dk_at dksJ12_compareTo_0 7 rfl rfl)
theorem dJ12_compareTo_8 : decode cJ12_compareTo 8 = .ok (.getfield 15, 3) := dk_180 0 15 (dk_at dksJ12_compareTo_0 8 rfl rfl)
theorem dJ12_compareTo_11 : decode cJ12_compareTo 11 = .ok (.astore_n 2, 1) := dk_77 (dk_at dksJ12_compareTo_0 11 rfl rfl)
theorem dJ12_compareTo_12 : decode cJ12_compareTo 12 = .ok (.aload_n 1, 1) := dk_43 (dk_at dksJ12_compareTo_0 12 rfl rfl)
theorem dJ12_compareTo_13 : decode cJ12_compareTo 13 = .ok (.getfield 15, 3) := dk_180 0 15 (dk_at dksJ12_compareTo_0 13 rfl rfl)
theorem dJ12_compareTo_16 : decode cJ12_compareTo 16 = .ok (.astore_n 3, 1) := dk_78 (dk_at dksJ12_compareTo_0 16 rfl rfl)
theorem dJ12_compareTo_17 : decode cJ12_compareTo 17 = .ok (.aload_n 0, 1) := dk_42 (dk_at dksJ12_compareTo_0 17 rfl rfl)
theorem dJ12_compareTo_18 : decode cJ12_compareTo 18 = .ok (.getfield 79, 3) := dk_180 0 79 (dk_at dksJ12_compareTo_0 18 rfl rfl)
theorem dJ12_compareTo_21 : decode cJ12_compareTo 21 = .ok (.istore 4, 2) := dk_54 4 (dk_at dksJ12_compareTo_0 21 rfl rfl)
theorem dJ12_compareTo_23 : decode cJ12_compareTo 23 = .ok (.aload_n 1, 1) := dk_43 (dk_at dksJ12_compareTo_0 23 rfl rfl)
theorem dJ12_compareTo_24 : decode cJ12_compareTo 24 = .ok (.getfield 79, 3) := dk_180 0 79 (dk_at dksJ12_compareTo_1 0 rfl rfl)
theorem dJ12_compareTo_27 : decode cJ12_compareTo 27 = .ok (.istore 5, 2) := dk_54 5 (dk_at dksJ12_compareTo_1 3 rfl rfl)
theorem dJ12_compareTo_29 : decode cJ12_compareTo 29 = .ok (.aload_n 0, 1) := dk_42 (dk_at dksJ12_compareTo_1 5 rfl rfl)
theorem dJ12_compareTo_30 : decode cJ12_compareTo 30 = .ok (.getfield 22, 3) := dk_180 0 22 (dk_at dksJ12_compareTo_1 6 rfl rfl)
theorem dJ12_compareTo_33 : decode cJ12_compareTo 33 = .ok (.aload_n 1, 1) := dk_43 (dk_at dksJ12_compareTo_1 9 rfl rfl)
theorem dJ12_compareTo_34 : decode cJ12_compareTo 34 = .ok (.getfield 22, 3) := dk_180 0 22 (dk_at dksJ12_compareTo_1 10 rfl rfl)
theorem dJ12_compareTo_37 : decode cJ12_compareTo 37 = .ok (.if_icmp .ne 32, 3) := dk_160 0 32 (dk_at dksJ12_compareTo_1 13 rfl rfl)
theorem dJ12_compareTo_40 : decode cJ12_compareTo 40 = .ok (.aload_n 0, 1) := dk_42 (dk_at dksJ12_compareTo_1 16 rfl rfl)
theorem dJ12_compareTo_41 : decode cJ12_compareTo 41 = .ok (.invokevirtual 83, 3) := dk_182 0 83 (dk_at dksJ12_compareTo_1 17 rfl rfl)
theorem dJ12_compareTo_44 : decode cJ12_compareTo 44 = .ok (.ifCond .eq 15, 3) := dk_153 0 15 (dk_at dksJ12_compareTo_1 20 rfl rfl)
theorem dJ12_compareTo_47 : decode cJ12_compareTo 47 = .ok (.aload_n 2, 1) := dk_44 (dk_at dksJ12_compareTo_1 23 rfl rfl)
theorem dJ12_compareTo_48 : decode cJ12_compareTo 48 = .ok (.aload_n 3, 1) := dk_45 (dk_at dksJ12_compareTo_2 0 rfl rfl)
theorem dJ12_compareTo_49 : decode cJ12_compareTo 49 = .ok (.iload 4, 2) := dk_21 4 (dk_at dksJ12_compareTo_2 1 rfl rfl)
theorem dJ12_compareTo_51 : decode cJ12_compareTo 51 = .ok (.iload 5, 2) := dk_21 5 (dk_at dksJ12_compareTo_2 3 rfl rfl)
theorem dJ12_compareTo_53 : decode cJ12_compareTo 53 = .ok (.invokestatic 87, 3) := dk_184 0 87 (dk_at dksJ12_compareTo_2 5 rfl rfl)
theorem dJ12_compareTo_56 : decode cJ12_compareTo 56 = .ok (.goto 12, 3) := dk_167 0 12 (dk_at dksJ12_compareTo_2 8 rfl rfl)
theorem dJ12_compareTo_59 : decode cJ12_compareTo 59 = .ok (.aload_n 2, 1) := dk_44 (dk_at dksJ12_compareTo_2 11 rfl rfl)
theorem dJ12_compareTo_60 : decode cJ12_compareTo 60 = .ok (.aload_n 3, 1) := dk_45 (dk_at dksJ12_compareTo_2 12 rfl rfl)
theorem dJ12_compareTo_61 : decode cJ12_compareTo 61 = .ok (.iload 4, 2) := dk_21 4 (dk_at dksJ12_compareTo_2 13 rfl rfl)
theorem dJ12_compareTo_63 : decode cJ12_compareTo 63 = .ok (.iload 5, 2) := dk_21 5 (dk_at dksJ12_compareTo_2 15 rfl rfl)
theorem dJ12_compareTo_65 : decode cJ12_compareTo 65 = .ok (.invokestatic 93, 3) := dk_184 0 93 (dk_at dksJ12_compareTo_2 17 rfl rfl)
theorem dJ12_compareTo_68 : decode cJ12_compareTo 68 = .ok (.ireturn, 1) := dk_172 (dk_at dksJ12_compareTo_2 20 rfl rfl)
theorem dJ12_compareTo_69 : decode cJ12_compareTo 69 = .ok (.aload_n 0, 1) := dk_42 (dk_at dksJ12_compareTo_2 21 rfl rfl)
theorem dJ12_compareTo_70 : decode cJ12_compareTo 70 = .ok (.invokevirtual 83, 3) := dk_182 0 83 (dk_at dksJ12_compareTo_3 0 rfl rfl)
theorem dJ12_compareTo_73 : decode cJ12_compareTo 73 = .ok (.ifCond .eq 15, 3) := dk_153 0 15 (dk_at dksJ12_compareTo_3 3 rfl rfl)
theorem dJ12_compareTo_76 : decode cJ12_compareTo 76 = .ok (.aload_n 2, 1) := dk_44 (dk_at dksJ12_compareTo_3 6 rfl rfl)
theorem dJ12_compareTo_77 : decode cJ12_compareTo 77 = .ok (.aload_n 3, 1) := dk_45 (dk_at dksJ12_compareTo_3 7 rfl rfl)
theorem dJ12_compareTo_78 : decode cJ12_compareTo 78 = .ok (.iload 4, 2) := dk_21 4 (dk_at dksJ12_compareTo_3 8 rfl rfl)
theorem dJ12_compareTo_80 : decode cJ12_compareTo 80 = .ok (.iload 5, 2) := dk_21 5 (dk_at dksJ12_compareTo_3 10 rfl rfl)
theorem dJ12_compareTo_82 : decode cJ12_compareTo 82 = .ok (.invokestatic 94, 3) := dk_184 0 94 (dk_at dksJ12_compareTo_3 12 rfl rfl)
theorem dJ12_compareTo_85 : decode cJ12_compareTo 85 = .ok (.goto 12, 3) := dk_167 0 12 (dk_at dksJ12_compareTo_3 15 rfl rfl)
theorem dJ12_compareTo_88 : decode cJ12_compareTo 88 = .ok (.aload_n 2, 1) := dk_44 (dk_at dksJ12_compareTo_3 18 rfl rfl)
theorem dJ12_compareTo_89 : decode cJ12_compareTo 89 = .ok (.aload_n 3, 1) := dk_45 (dk_at dksJ12_compareTo_3 19 rfl rfl)
theorem dJ12_compareTo_90 : decode cJ12_compareTo 90 = .ok (.iload 4, 2) := dk_21 4 (dk_at dksJ12_compareTo_3 20 rfl rfl)
theorem dJ12_compareTo_92 : decode cJ12_compareTo 92 = .ok (.iload 5, 2) := dk_21 5 (dk_at dksJ12_compareTo_3 22 rfl rfl)
theorem dJ12_compareTo_94 : decode cJ12_compareTo 94 = .ok (.invokestatic 97, 3) := dk_184 0 97 (dk_at dksJ12_compareTo_4 0 rfl rfl)
theorem dJ12_compareTo_97 : decode cJ12_compareTo 97 = .ok (.ireturn, 1) := dk_172 (dk_at dksJ12_compareTo_4 3 rfl rfl)
abbrev cJ12_append_3 : ByteArray := prog_17_method_31_code
def yJ12_append_3 : MethodName := ⟨RJ12, "append", "(C)Ljava/lang/AbstractStringBuilder;"⟩
def dkwJ12_append_3_3 : List UInt8 := [181, 0, 79, 27, 184, 0, 197, 42, 176]
abbrev dktJ12_append_3_3 : List UInt8 := dkwJ12_append_3_3 ++ []
def dkwJ12_append_3_2 : List UInt8 := [182, 0, 83, 153, 0, 7, 42, 182, 0, 195, 42, 180, 0, 15, 42, 89, 180, 0, 79, 90, 4, 96]
abbrev dktJ12_append_3_2 : List UInt8 := dkwJ12_append_3_2 ++ dktJ12_append_3_3
def dkwJ12_append_3_1 : List UInt8 := [42, 180, 0, 15, 42, 89, 180, 0, 79, 90, 4, 96, 181, 0, 79, 27, 145, 84, 167, 0, 33, 42]
abbrev dktJ12_append_3_1 : List UInt8 := dkwJ12_append_3_1 ++ dktJ12_append_3_2
def dkwJ12_append_3_0 : List UInt8 := [42, 42, 180, 0, 79, 4, 96, 182, 0, 100, 42, 182, 0, 83, 153, 0, 31, 27, 184, 0, 191, 153, 0, 24]
abbrev dktJ12_append_3_0 : List UInt8 := dkwJ12_append_3_0 ++ dktJ12_append_3_1
theorem dksJ12_append_3_0 : cJ12_append_3.data.toList.drop 0 = dktJ12_append_3_0 := by decide +kernel
theorem dksJ12_append_3_1 : cJ12_append_3.data.toList.drop 24 = dktJ12_append_3_1 := dk_seg dksJ12_append_3_0 24 rfl rfl
theorem dksJ12_append_3_2 : cJ12_append_3.data.toList.drop 46 = dktJ12_append_3_2 := dk_seg dksJ12_append_3_1 22 rfl rfl
theorem dksJ12_append_3_3 : cJ12_append_3.data.toList.drop 68 = dktJ12_append_3_3 := dk_seg dksJ12_append_3_2 22 rfl rfl
theorem dJ12_append_3_0 : decode cJ12_append_3 0 = .ok (.aload_n 0, 1) := dk_42 (dk_at dksJ12_append_3_0 0 rfl rfl)
theorem dJ12_append_3_1 : decode cJ12_append_3 1 = .ok (.aload_n 0, 1) := dk_42 (dk_at dksJ12_append_3_0 1 rfl rfl)
theorem dJ12_append_3_2 : decode cJ12_append_3 2 = .ok (.getfield 79, 3) := dk_180 0 79 (dk_at dksJ12_append_3_0 2 rfl rfl)
theorem dJ12_append_3_5 : decode cJ12_append_3 5 = .ok (.iconst 1, 1) := dk_4 (dk_at dksJ12_append_3_0 5 rfl rfl)
theorem dJ12_append_3_6 : decode cJ12_append_3 6 = .ok (.iadd, 1) := dk_96 (dk_at dksJ12_append_3_0 6 rfl rfl)
theorem dJ12_append_3_7 : decode cJ12_append_3 7 = .ok (.invokevirtual 100, 3) := dk_182 0 100 (dk_at dksJ12_append_3_0 7 rfl rfl)
theorem dJ12_append_3_10 : decode cJ12_append_3 10 = .ok (.aload_n 0, 1) := dk_42 (dk_at dksJ12_append_3_0 10 rfl rfl)
theorem dJ12_append_3_11 : decode cJ12_append_3 11 = .ok (.invokevirtual 83, 3) := dk_182 0 83 (dk_at dksJ12_append_3_0 11 rfl rfl)
theorem dJ12_append_3_14 : decode cJ12_append_3 14 = .ok (.ifCond .eq 31, 3) := dk_153 0 31 (dk_at dksJ12_append_3_0 14 rfl rfl)
theorem dJ12_append_3_17 : decode cJ12_append_3 17 = .ok (.iload_n 1, 1) := dk_27 (dk_at dksJ12_append_3_0 17 rfl rfl)
theorem dJ12_append_3_18 : decode cJ12_append_3 18 = .ok (.invokestatic 191, 3) := dk_184 0 191 (dk_at dksJ12_append_3_0 18 rfl rfl)
theorem dJ12_append_3_21 : decode cJ12_append_3 21 = .ok (.ifCond .eq 24, 3) := dk_153 0 24 (dk_at dksJ12_append_3_0 21 rfl rfl)
theorem dJ12_append_3_24 : decode cJ12_append_3 24 = .ok (.aload_n 0, 1) := dk_42 (dk_at dksJ12_append_3_1 0 rfl rfl)
theorem dJ12_append_3_25 : decode cJ12_append_3 25 = .ok (.getfield 15, 3) := dk_180 0 15 (dk_at dksJ12_append_3_1 1 rfl rfl)
theorem dJ12_append_3_28 : decode cJ12_append_3 28 = .ok (.aload_n 0, 1) := dk_42 (dk_at dksJ12_append_3_1 4 rfl rfl)
theorem dJ12_append_3_29 : decode cJ12_append_3 29 = .ok (.dup, 1) := dk_89 (dk_at dksJ12_append_3_1 5 rfl rfl)
theorem dJ12_append_3_30 : decode cJ12_append_3 30 = .ok (.getfield 79, 3) := dk_180 0 79 (dk_at dksJ12_append_3_1 6 rfl rfl)
theorem dJ12_append_3_33 : decode cJ12_append_3 33 = .ok (.dup_x1, 1) := dk_90 (dk_at dksJ12_append_3_1 9 rfl rfl)
theorem dJ12_append_3_34 : decode cJ12_append_3 34 = .ok (.iconst 1, 1) := dk_4 (dk_at dksJ12_append_3_1 10 rfl rfl)
theorem dJ12_append_3_35 : decode cJ12_append_3 35 = .ok (.iadd, 1) := dk_96 (dk_at dksJ12_append_3_1 11 rfl rfl)
theorem dJ12_append_3_36 : decode cJ12_append_3 36 = .ok (.putfield 79, 3) := dk_181 0 79 (dk_at dksJ12_append_3_1 12 rfl rfl)
theorem dJ12_append_3_39 : decode cJ12_append_3 39 = .ok (.iload_n 1, 1) := dk_27 (dk_at dksJ12_append_3_1 15 rfl rfl)
theorem dJ12_append_3_40 : decode cJ12_append_3 40 = .ok (.i2b, 1) := dk_145 (dk_at dksJ12_append_3_1 16 rfl rfl)
theorem dJ12_append_3_41 : decode cJ12_append_3 41 = .ok (.bastore, 1) := dk_84 (dk_at dksJ12_append_3_1 17 rfl rfl)
theorem dJ12_append_3_42 : decode cJ12_append_3 42 = .ok (.goto 33, 3) := dk_167 0 33 (dk_at dksJ12_append_3_1 18 rfl rfl)
theorem dJ12_append_3_45 : decode cJ12_append_3 45 = .ok (.aload_n 0, 1) := dk_42 (dk_at dksJ12_append_3_1 21 rfl rfl)
theorem dJ12_append_3_46 : decode cJ12_append_3 46 = .ok (.invokevirtual 83, 3) := dk_182 0 83 (dk_at dksJ12_append_3_2 0 rfl rfl)
theorem dJ12_append_3_49 : decode cJ12_append_3 49 = .ok (.ifCond .eq 7, 3) := dk_153 0 7 (dk_at dksJ12_append_3_2 3 rfl rfl)
theorem dJ12_append_3_52 : decode cJ12_append_3 52 = .ok (.aload_n 0, 1) := dk_42 (dk_at dksJ12_append_3_2 6 rfl rfl)
theorem dJ12_append_3_53 : decode cJ12_append_3 53 = .ok (.invokevirtual 195, 3) := dk_182 0 195 (dk_at dksJ12_append_3_2 7 rfl rfl)
theorem dJ12_append_3_56 : decode cJ12_append_3 56 = .ok (.aload_n 0, 1) := dk_42 (dk_at dksJ12_append_3_2 10 rfl rfl)
theorem dJ12_append_3_57 : decode cJ12_append_3 57 = .ok (.getfield 15, 3) := dk_180 0 15 (dk_at dksJ12_append_3_2 11 rfl rfl)
theorem dJ12_append_3_60 : decode cJ12_append_3 60 = .ok (.aload_n 0, 1) := dk_42 (dk_at dksJ12_append_3_2 14 rfl rfl)
theorem dJ12_append_3_61 : decode cJ12_append_3 61 = .ok (.dup, 1) := dk_89 (dk_at dksJ12_append_3_2 15 rfl rfl)
theorem dJ12_append_3_62 : decode cJ12_append_3 62 = .ok (.getfield 79, 3) := dk_180 0 79 (dk_at dksJ12_append_3_2 16 rfl rfl)
theorem dJ12_append_3_65 : decode cJ12_append_3 65 = .ok (.dup_x1, 1) := dk_90 (dk_at dksJ12_append_3_2 19 rfl rfl)
theorem dJ12_append_3_66 : decode cJ12_append_3 66 = .ok (.iconst 1, 1) := dk_4 (dk_at dksJ12_append_3_2 20 rfl rfl)
theorem dJ12_append_3_67 : decode cJ12_append_3 67 = .ok (.iadd, 1) := dk_96 (dk_at dksJ12_append_3_2 21 rfl rfl)
theorem dJ12_append_3_68 : decode cJ12_append_3 68 = .ok (.putfield 79, 3) := dk_181 0 79 (dk_at dksJ12_append_3_3 0 rfl rfl)
theorem dJ12_append_3_71 : decode cJ12_append_3 71 = .ok (.iload_n 1, 1) := dk_27 (dk_at dksJ12_append_3_3 3 rfl rfl)
theorem dJ12_append_3_72 : decode cJ12_append_3 72 = .ok (.invokestatic 197, 3) := dk_184 0 197 (dk_at dksJ12_append_3_3 4 rfl rfl)
theorem dJ12_append_3_75 : decode cJ12_append_3 75 = .ok (.aload_n 0, 1) := dk_42 (dk_at dksJ12_append_3_3 7 rfl rfl)
theorem dJ12_append_3_76 : decode cJ12_append_3 76 = .ok (.areturn, 1) := dk_176 (dk_at dksJ12_append_3_3 8 rfl rfl)
abbrev cJ12_setLength : ByteArray := prog_17_method_13_code
def yJ12_setLength : MethodName := ⟨RJ12, "setLength", "(I)V"⟩
def dkwJ12_setLength_3 : List UInt8 := [164, 0, 8, 42, 4, 181, 0, 73, 42, 27, 181, 0, 79, 177]
abbrev dktJ12_setLength_3 : List UInt8 := dkwJ12_setLength_3 ++ []
def dkwJ12_setLength_2 : List UInt8 := [167, 0, 31, 42, 180, 0, 15, 42, 180, 0, 79, 27, 184, 0, 137, 167, 0, 16, 42, 180, 0, 79, 27]
abbrev dktJ12_setLength_2 : List UInt8 := dkwJ12_setLength_2 ++ dktJ12_setLength_3
def dkwJ12_setLength_1 : List UInt8 := [162, 0, 40, 42, 182, 0, 83, 153, 0, 18, 42, 180, 0, 15, 42, 180, 0, 79, 27, 184, 0, 133]
abbrev dktJ12_setLength_1 : List UInt8 := dkwJ12_setLength_1 ++ dktJ12_setLength_2
def dkwJ12_setLength_0 : List UInt8 := [27, 156, 0, 12, 187, 0, 129, 89, 27, 183, 0, 131, 191, 42, 27, 182, 0, 100, 42, 180, 0, 79, 27]
abbrev dktJ12_setLength_0 : List UInt8 := dkwJ12_setLength_0 ++ dktJ12_setLength_1
theorem dksJ12_setLength_0 : cJ12_setLength.data.toList.drop 0 = dktJ12_setLength_0 := by decide +kernel
theorem dksJ12_setLength_1 : cJ12_setLength.data.toList.drop 23 = dktJ12_setLength_1 := dk_seg dksJ12_setLength_0 23 rfl rfl
theorem dksJ12_setLength_2 : cJ12_setLength.data.toList.drop 45 = dktJ12_setLength_2 := dk_seg dksJ12_setLength_1 22 rfl rfl
theorem dksJ12_setLength_3 : cJ12_setLength.data.toList.drop 68 = dktJ12_setLength_3 := dk_seg dksJ12_setLength_2 23 rfl rfl
theorem dJ12_setLength_0 : decode cJ12_setLength 0 = .ok (.iload_n 1, 1) := dk_27 (dk_at dksJ12_setLength_0 0 rfl rfl)
theorem dJ12_setLength_1 : decode cJ12_setLength 1 = .ok (.ifCond .ge 12, 3) := dk_156 0 12 (dk_at dksJ12_setLength_0 1 rfl rfl)
theorem dJ12_setLength_4 : decode cJ12_setLength 4 = .ok (.new 129, 3) := dk_187 0 129 (dk_at dksJ12_setLength_0 4 rfl rfl)
theorem dJ12_setLength_7 : decode cJ12_setLength 7 = .ok (.dup, 1) := dk_89 (dk_at dksJ12_setLength_0 7 rfl rfl)
theorem dJ12_setLength_8 : decode cJ12_setLength 8 = .ok (.iload_n 1, 1) := dk_27 (dk_at dksJ12_setLength_0 8 rfl rfl)
theorem dJ12_setLength_9 : decode cJ12_setLength 9 = .ok (.invokespecial 131, 3) := dk_183 0 131 (dk_at dksJ12_setLength_0 9 rfl rfl)
theorem dJ12_setLength_12 : decode cJ12_setLength 12 = .ok (.athrow, 1) := dk_191 (dk_at dksJ12_setLength_0 12 rfl rfl)
theorem dJ12_setLength_13 : decode cJ12_setLength 13 = .ok (.aload_n 0, 1) := dk_42 (dk_at dksJ12_setLength_0 13 rfl rfl)
theorem dJ12_setLength_14 : decode cJ12_setLength 14 = .ok (.iload_n 1, 1) := dk_27 (dk_at dksJ12_setLength_0 14 rfl rfl)
theorem dJ12_setLength_15 : decode cJ12_setLength 15 = .ok (.invokevirtual 100, 3) := dk_182 0 100 (dk_at dksJ12_setLength_0 15 rfl rfl)
theorem dJ12_setLength_18 : decode cJ12_setLength 18 = .ok (.aload_n 0, 1) := dk_42 (dk_at dksJ12_setLength_0 18 rfl rfl)
theorem dJ12_setLength_19 : decode cJ12_setLength 19 = .ok (.getfield 79, 3) := dk_180 0 79 (dk_at dksJ12_setLength_0 19 rfl rfl)
theorem dJ12_setLength_22 : decode cJ12_setLength 22 = .ok (.iload_n 1, 1) := dk_27 (dk_at dksJ12_setLength_0 22 rfl rfl)
theorem dJ12_setLength_23 : decode cJ12_setLength 23 = .ok (.if_icmp .ge 40, 3) := dk_162 0 40 (dk_at dksJ12_setLength_1 0 rfl rfl)
theorem dJ12_setLength_26 : decode cJ12_setLength 26 = .ok (.aload_n 0, 1) := dk_42 (dk_at dksJ12_setLength_1 3 rfl rfl)
theorem dJ12_setLength_27 : decode cJ12_setLength 27 = .ok (.invokevirtual 83, 3) := dk_182 0 83 (dk_at dksJ12_setLength_1 4 rfl rfl)
theorem dJ12_setLength_30 : decode cJ12_setLength 30 = .ok (.ifCond .eq 18, 3) := dk_153 0 18 (dk_at dksJ12_setLength_1 7 rfl rfl)
theorem dJ12_setLength_33 : decode cJ12_setLength 33 = .ok (.aload_n 0, 1) := dk_42 (dk_at dksJ12_setLength_1 10 rfl rfl)
theorem dJ12_setLength_34 : decode cJ12_setLength 34 = .ok (.getfield 15, 3) := dk_180 0 15 (dk_at dksJ12_setLength_1 11 rfl rfl)
theorem dJ12_setLength_37 : decode cJ12_setLength 37 = .ok (.aload_n 0, 1) := dk_42 (dk_at dksJ12_setLength_1 14 rfl rfl)
theorem dJ12_setLength_38 : decode cJ12_setLength 38 = .ok (.getfield 79, 3) := dk_180 0 79 (dk_at dksJ12_setLength_1 15 rfl rfl)
theorem dJ12_setLength_41 : decode cJ12_setLength 41 = .ok (.iload_n 1, 1) := dk_27 (dk_at dksJ12_setLength_1 18 rfl rfl)
theorem dJ12_setLength_42 : decode cJ12_setLength 42 = .ok (.invokestatic 133, 3) := dk_184 0 133 (dk_at dksJ12_setLength_1 19 rfl rfl)
theorem dJ12_setLength_45 : decode cJ12_setLength 45 = .ok (.goto 31, 3) := dk_167 0 31 (dk_at dksJ12_setLength_2 0 rfl rfl)
theorem dJ12_setLength_48 : decode cJ12_setLength 48 = .ok (.aload_n 0, 1) := dk_42 (dk_at dksJ12_setLength_2 3 rfl rfl)
theorem dJ12_setLength_49 : decode cJ12_setLength 49 = .ok (.getfield 15, 3) := dk_180 0 15 (dk_at dksJ12_setLength_2 4 rfl rfl)
theorem dJ12_setLength_52 : decode cJ12_setLength 52 = .ok (.aload_n 0, 1) := dk_42 (dk_at dksJ12_setLength_2 7 rfl rfl)
theorem dJ12_setLength_53 : decode cJ12_setLength 53 = .ok (.getfield 79, 3) := dk_180 0 79 (dk_at dksJ12_setLength_2 8 rfl rfl)
theorem dJ12_setLength_56 : decode cJ12_setLength 56 = .ok (.iload_n 1, 1) := dk_27 (dk_at dksJ12_setLength_2 11 rfl rfl)
theorem dJ12_setLength_57 : decode cJ12_setLength 57 = .ok (.invokestatic 137, 3) := dk_184 0 137 (dk_at dksJ12_setLength_2 12 rfl rfl)
theorem dJ12_setLength_60 : decode cJ12_setLength 60 = .ok (.goto 16, 3) := dk_167 0 16 (dk_at dksJ12_setLength_2 15 rfl rfl)
theorem dJ12_setLength_63 : decode cJ12_setLength 63 = .ok (.aload_n 0, 1) := dk_42 (dk_at dksJ12_setLength_2 18 rfl rfl)
theorem dJ12_setLength_64 : decode cJ12_setLength 64 = .ok (.getfield 79, 3) := dk_180 0 79 (dk_at dksJ12_setLength_2 19 rfl rfl)
theorem dJ12_setLength_67 : decode cJ12_setLength 67 = .ok (.iload_n 1, 1) := dk_27 (dk_at dksJ12_setLength_2 22 rfl rfl)
theorem dJ12_setLength_68 : decode cJ12_setLength 68 = .ok (.if_icmp .le 8, 3) := dk_164 0 8 (dk_at dksJ12_setLength_3 0 rfl rfl)
theorem dJ12_setLength_71 : decode cJ12_setLength 71 = .ok (.aload_n 0, 1) := dk_42 (dk_at dksJ12_setLength_3 3 rfl rfl)
theorem dJ12_setLength_72 : decode cJ12_setLength 72 = .ok (.iconst 1, 1) := dk_4 (dk_at dksJ12_setLength_3 4 rfl rfl)
theorem dJ12_setLength_73 : decode cJ12_setLength 73 = .ok (.putfield 73, 3) := dk_181 0 73 (dk_at dksJ12_setLength_3 5 rfl rfl)
theorem dJ12_setLength_76 : decode cJ12_setLength 76 = .ok (.aload_n 0, 1) := dk_42 (dk_at dksJ12_setLength_3 8 rfl rfl)
theorem dJ12_setLength_77 : decode cJ12_setLength 77 = .ok (.iload_n 1, 1) := dk_27 (dk_at dksJ12_setLength_3 9 rfl rfl)
theorem dJ12_setLength_78 : decode cJ12_setLength 78 = .ok (.putfield 79, 3) := dk_181 0 79 (dk_at dksJ12_setLength_3 10 rfl rfl)
theorem dJ12_setLength_81 : decode cJ12_setLength 81 = .ok (.return_, 1) := dk_177 (dk_at dksJ12_setLength_3 13 rfl rfl)
abbrev cJ13_init : ByteArray := prog_36_method_1_code
def yJ13_init : MethodName := ⟨RJ13, "<init>", "()V"⟩
def dkwJ13_init_0 : List UInt8 := [42, 16, 16, 183, 0, 1, 177]
abbrev dktJ13_init_0 : List UInt8 := dkwJ13_init_0 ++ []
theorem dksJ13_init_0 : cJ13_init.data.toList.drop 0 = dktJ13_init_0 := by decide +kernel
theorem dJ13_init_0 : decode cJ13_init 0 = .ok (.aload_n 0, 1) := dk_42 (dk_at dksJ13_init_0 0 rfl rfl)
theorem dJ13_init_1 : decode cJ13_init 1 = .ok (.bipush 16, 2) := dk_16 16 (dk_at dksJ13_init_0 1 rfl rfl)
theorem dJ13_init_3 : decode cJ13_init 3 = .ok (.invokespecial 1, 3) := dk_183 0 1 (dk_at dksJ13_init_0 3 rfl rfl)
theorem dJ13_init_6 : decode cJ13_init 6 = .ok (.return_, 1) := dk_177 (dk_at dksJ13_init_0 6 rfl rfl)
abbrev cJ13_append : ByteArray := prog_36_method_7_code
def yJ13_append : MethodName := ⟨RJ13, "append", "(Ljava/lang/String;)Ljava/lang/StringBuilder;"⟩
def dkwJ13_append_0 : List UInt8 := [42, 43, 183, 0, 29, 87, 42, 176]
abbrev dktJ13_append_0 : List UInt8 := dkwJ13_append_0 ++ []
theorem dksJ13_append_0 : cJ13_append.data.toList.drop 0 = dktJ13_append_0 := by decide +kernel
theorem dJ13_append_0 : decode cJ13_append 0 = .ok (.aload_n 0, 1) := dk_42 (dk_at dksJ13_append_0 0 rfl rfl)
theorem dJ13_append_1 : decode cJ13_append 1 = .ok (.aload_n 1, 1) := dk_43 (dk_at dksJ13_append_0 1 rfl rfl)
theorem dJ13_append_2 : decode cJ13_append 2 = .ok (.invokespecial 29, 3) := dk_183 0 29 (dk_at dksJ13_append_0 2 rfl rfl)
theorem dJ13_append_5 : decode cJ13_append 5 = .ok (.pop, 1) := dk_87 (dk_at dksJ13_append_0 5 rfl rfl)
theorem dJ13_append_6 : decode cJ13_append 6 = .ok (.aload_n 0, 1) := dk_42 (dk_at dksJ13_append_0 6 rfl rfl)
theorem dJ13_append_7 : decode cJ13_append 7 = .ok (.areturn, 1) := dk_176 (dk_at dksJ13_append_0 7 rfl rfl)
abbrev cJ13_append_2 : ByteArray := prog_36_method_15_code
def yJ13_append_2 : MethodName := ⟨RJ13, "append", "(I)Ljava/lang/StringBuilder;"⟩
def dkwJ13_append_2_0 : List UInt8 := [42, 27, 183, 0, 53, 87, 42, 176]
abbrev dktJ13_append_2_0 : List UInt8 := dkwJ13_append_2_0 ++ []
theorem dksJ13_append_2_0 : cJ13_append_2.data.toList.drop 0 = dktJ13_append_2_0 := by decide +kernel
theorem dJ13_append_2_0 : decode cJ13_append_2 0 = .ok (.aload_n 0, 1) := dk_42 (dk_at dksJ13_append_2_0 0 rfl rfl)
theorem dJ13_append_2_1 : decode cJ13_append_2 1 = .ok (.iload_n 1, 1) := dk_27 (dk_at dksJ13_append_2_0 1 rfl rfl)
theorem dJ13_append_2_2 : decode cJ13_append_2 2 = .ok (.invokespecial 53, 3) := dk_183 0 53 (dk_at dksJ13_append_2_0 2 rfl rfl)
theorem dJ13_append_2_5 : decode cJ13_append_2 5 = .ok (.pop, 1) := dk_87 (dk_at dksJ13_append_2_0 5 rfl rfl)
theorem dJ13_append_2_6 : decode cJ13_append_2 6 = .ok (.aload_n 0, 1) := dk_42 (dk_at dksJ13_append_2_0 6 rfl rfl)
theorem dJ13_append_2_7 : decode cJ13_append_2 7 = .ok (.areturn, 1) := dk_176 (dk_at dksJ13_append_2_0 7 rfl rfl)
abbrev cJ13_toString : ByteArray := prog_36_method_42_code
def yJ13_toString : MethodName := ⟨RJ13, "toString", "()Ljava/lang/String;"⟩
def dkwJ13_toString_0 : List UInt8 := [187, 0, 18, 89, 42, 183, 0, 137, 176]
abbrev dktJ13_toString_0 : List UInt8 := dkwJ13_toString_0 ++ []
theorem dksJ13_toString_0 : cJ13_toString.data.toList.drop 0 = dktJ13_toString_0 := by decide +kernel
theorem dJ13_toString_0 : decode cJ13_toString 0 = .ok (.new 18, 3) := dk_187 0 18 (dk_at dksJ13_toString_0 0 rfl rfl)
theorem dJ13_toString_3 : decode cJ13_toString 3 = .ok (.dup, 1) := dk_89 (dk_at dksJ13_toString_0 3 rfl rfl)
theorem dJ13_toString_4 : decode cJ13_toString 4 = .ok (.aload_n 0, 1) := dk_42 (dk_at dksJ13_toString_0 4 rfl rfl)
theorem dJ13_toString_5 : decode cJ13_toString 5 = .ok (.invokespecial 137, 3) := dk_183 0 137 (dk_at dksJ13_toString_0 5 rfl rfl)
theorem dJ13_toString_8 : decode cJ13_toString 8 = .ok (.areturn, 1) := dk_176 (dk_at dksJ13_toString_0 8 rfl rfl)
abbrev cJ13_length : ByteArray := prog_36_method_93_code
def yJ13_length : MethodName := ⟨RJ13, "length", "()I"⟩
theorem dJ13_length_0 : decode cJ13_length 0 = .ok (.aload_n 0, 1) := by decide +kernel
theorem dJ13_length_1 : decode cJ13_length 1 = .ok (.invokespecial 343, 3) := by decide +kernel
theorem dJ13_length_4 : decode cJ13_length 4 = .ok (.ireturn, 1) := by decide +kernel
abbrev cJ13_compareTo : ByteArray := prog_36_method_97_code
def yJ13_compareTo : MethodName := ⟨RJ13, "compareTo", "(Ljava/lang/Object;)I"⟩
def dkwJ13_compareTo_0 : List UInt8 := [42, 43, 192, 0, 24, 182, 1, 90, 172]
abbrev dktJ13_compareTo_0 : List UInt8 := dkwJ13_compareTo_0 ++ []
theorem dksJ13_compareTo_0 : cJ13_compareTo.data.toList.drop 0 = dktJ13_compareTo_0 := by decide +kernel
theorem dJ13_compareTo_0 : decode cJ13_compareTo 0 = .ok (.aload_n 0, 1) := dk_42 (dk_at dksJ13_compareTo_0 0 rfl rfl)
theorem dJ13_compareTo_1 : decode cJ13_compareTo 1 = .ok (.aload_n 1, 1) := dk_43 (dk_at dksJ13_compareTo_0 1 rfl rfl)
theorem dJ13_compareTo_2 : decode cJ13_compareTo 2 = .ok (.checkcast 24, 3) := dk_192 0 24 (dk_at dksJ13_compareTo_0 2 rfl rfl)
theorem dJ13_compareTo_5 : decode cJ13_compareTo 5 = .ok (.invokevirtual 346, 3) := dk_182 1 90 (dk_at dksJ13_compareTo_0 5 rfl rfl)
theorem dJ13_compareTo_8 : decode cJ13_compareTo 8 = .ok (.ireturn, 1) := dk_172 (dk_at dksJ13_compareTo_0 8 rfl rfl)
abbrev cJ13_compareTo_2 : ByteArray := prog_36_method_5_code
def yJ13_compareTo_2 : MethodName := ⟨RJ13, "compareTo", "(Ljava/lang/StringBuilder;)I"⟩
def dkwJ13_compareTo_2_0 : List UInt8 := [42, 43, 183, 0, 13, 172]
abbrev dktJ13_compareTo_2_0 : List UInt8 := dkwJ13_compareTo_2_0 ++ []
theorem dksJ13_compareTo_2_0 : cJ13_compareTo_2.data.toList.drop 0 = dktJ13_compareTo_2_0 := by decide +kernel
theorem dJ13_compareTo_2_0 : decode cJ13_compareTo_2 0 = .ok (.aload_n 0, 1) := dk_42 (dk_at dksJ13_compareTo_2_0 0 rfl rfl)
theorem dJ13_compareTo_2_1 : decode cJ13_compareTo_2 1 = .ok (.aload_n 1, 1) := dk_43 (dk_at dksJ13_compareTo_2_0 1 rfl rfl)
theorem dJ13_compareTo_2_2 : decode cJ13_compareTo_2 2 = .ok (.invokespecial 13, 3) := dk_183 0 13 (dk_at dksJ13_compareTo_2_0 2 rfl rfl)
theorem dJ13_compareTo_2_5 : decode cJ13_compareTo_2 5 = .ok (.ireturn, 1) := dk_172 (dk_at dksJ13_compareTo_2_0 5 rfl rfl)
abbrev cJ13_append_3 : ByteArray := prog_36_method_14_code
def yJ13_append_3 : MethodName := ⟨RJ13, "append", "(C)Ljava/lang/StringBuilder;"⟩
def dkwJ13_append_3_0 : List UInt8 := [42, 27, 183, 0, 50, 87, 42, 176]
abbrev dktJ13_append_3_0 : List UInt8 := dkwJ13_append_3_0 ++ []
theorem dksJ13_append_3_0 : cJ13_append_3.data.toList.drop 0 = dktJ13_append_3_0 := by decide +kernel
theorem dJ13_append_3_0 : decode cJ13_append_3 0 = .ok (.aload_n 0, 1) := dk_42 (dk_at dksJ13_append_3_0 0 rfl rfl)
theorem dJ13_append_3_1 : decode cJ13_append_3 1 = .ok (.iload_n 1, 1) := dk_27 (dk_at dksJ13_append_3_0 1 rfl rfl)
theorem dJ13_append_3_2 : decode cJ13_append_3 2 = .ok (.invokespecial 50, 3) := dk_183 0 50 (dk_at dksJ13_append_3_0 2 rfl rfl)
theorem dJ13_append_3_5 : decode cJ13_append_3 5 = .ok (.pop, 1) := dk_87 (dk_at dksJ13_append_3_0 5 rfl rfl)
theorem dJ13_append_3_6 : decode cJ13_append_3 6 = .ok (.aload_n 0, 1) := dk_42 (dk_at dksJ13_append_3_0 6 rfl rfl)
theorem dJ13_append_3_7 : decode cJ13_append_3 7 = .ok (.areturn, 1) := dk_176 (dk_at dksJ13_append_3_0 7 rfl rfl)
abbrev cJ13_setLength : ByteArray := prog_36_method_89_code
def yJ13_setLength : MethodName := ⟨RJ13, "setLength", "(I)V"⟩
def dkwJ13_setLength_0 : List UInt8 := [42, 27, 183, 1, 77, 177]
abbrev dktJ13_setLength_0 : List UInt8 := dkwJ13_setLength_0 ++ []
theorem dksJ13_setLength_0 : cJ13_setLength.data.toList.drop 0 = dktJ13_setLength_0 := by decide +kernel
theorem dJ13_setLength_0 : decode cJ13_setLength 0 = .ok (.aload_n 0, 1) := dk_42 (dk_at dksJ13_setLength_0 0 rfl rfl)
theorem dJ13_setLength_1 : decode cJ13_setLength 1 = .ok (.iload_n 1, 1) := dk_27 (dk_at dksJ13_setLength_0 1 rfl rfl)
theorem dJ13_setLength_2 : decode cJ13_setLength 2 = .ok (.invokespecial 333, 3) := dk_183 1 77 (dk_at dksJ13_setLength_0 2 rfl rfl)
theorem dJ13_setLength_5 : decode cJ13_setLength 5 = .ok (.return_, 1) := dk_177 (dk_at dksJ13_setLength_0 5 rfl rfl)
abbrev cJ14_equals : ByteArray := prog_35_method_66_code
def yJ14_equals : MethodName := ⟨RJ14, "equals", "(Ljava/lang/Object;)Z"⟩
def dkwJ14_equals_2 : List UInt8 := [184, 2, 29, 153, 0, 7, 4, 167, 0, 4, 3, 172]
abbrev dktJ14_equals_2 : List UInt8 := dkwJ14_equals_2 ++ []
def dkwJ14_equals_1 : List UInt8 := [153, 0, 14, 42, 180, 0, 15, 44, 180, 0, 15, 160, 0, 21, 42, 180, 0, 9, 44, 180, 0, 9]
abbrev dktJ14_equals_1 : List UInt8 := dkwJ14_equals_1 ++ dktJ14_equals_2
def dkwJ14_equals_0 : List UInt8 := [42, 43, 166, 0, 5, 4, 172, 43, 193, 0, 10, 153, 0, 43, 43, 192, 0, 10, 77, 178, 0, 38]
abbrev dktJ14_equals_0 : List UInt8 := dkwJ14_equals_0 ++ dktJ14_equals_1
theorem dksJ14_equals_0 : cJ14_equals.data.toList.drop 0 = dktJ14_equals_0 := by decide +kernel
theorem dksJ14_equals_1 : cJ14_equals.data.toList.drop 22 = dktJ14_equals_1 := dk_seg dksJ14_equals_0 22 rfl rfl
theorem dksJ14_equals_2 : cJ14_equals.data.toList.drop 44 = dktJ14_equals_2 := dk_seg dksJ14_equals_1 22 rfl rfl
theorem dJ14_equals_0 : decode cJ14_equals 0 = .ok (.aload_n 0, 1) := dk_42 (dk_at dksJ14_equals_0 0 rfl rfl)
theorem dJ14_equals_1 : decode cJ14_equals 1 = .ok (.aload_n 1, 1) := dk_43 (dk_at dksJ14_equals_0 1 rfl rfl)
theorem dJ14_equals_2 : decode cJ14_equals 2 = .ok (.if_acmp .ne 5, 3) := dk_166 0 5 (dk_at dksJ14_equals_0 2 rfl rfl)
theorem dJ14_equals_5 : decode cJ14_equals 5 = .ok (.iconst 1, 1) := dk_4 (dk_at dksJ14_equals_0 5 rfl rfl)
theorem dJ14_equals_6 : decode cJ14_equals 6 = .ok (.ireturn, 1) := dk_172 (dk_at dksJ14_equals_0 6 rfl rfl)
theorem dJ14_equals_7 : decode cJ14_equals 7 = .ok (.aload_n 1, 1) := dk_43 (dk_at dksJ14_equals_0 7 rfl rfl)
theorem dJ14_equals_8 : decode cJ14_equals 8 = .ok (.instanceof 10, 3) := dk_193 0 10 (dk_at dksJ14_equals_0 8 rfl rfl)
theorem dJ14_equals_11 : decode cJ14_equals 11 = .ok (.ifCond .eq 43, 3) := dk_153 0 43 (dk_at dksJ14_equals_0 11 rfl rfl)
theorem dJ14_equals_14 : decode cJ14_equals 14 = .ok (.aload_n 1, 1) := dk_43 (dk_at dksJ14_equals_0 14 rfl rfl)
theorem dJ14_equals_15 : decode cJ14_equals 15 = .ok (.checkcast 10, 3) := dk_192 0 10 (dk_at dksJ14_equals_0 15 rfl rfl)
theorem dJ14_equals_18 : decode cJ14_equals 18 = .ok (.astore_n 2, 1) := dk_77 (dk_at dksJ14_equals_0 18 rfl rfl)
theorem dJ14_equals_19 : decode cJ14_equals 19 = .ok (.getstatic 38, 3) := dk_178 0 38 (dk_at dksJ14_equals_0 19 rfl rfl)
theorem dJ14_equals_22 : decode cJ14_equals 22 = .ok (.ifCond .eq 14, 3) := dk_153 0 14 (dk_at dksJ14_equals_1 0 rfl rfl)
theorem dJ14_equals_25 : decode cJ14_equals 25 = .ok (.aload_n 0, 1) := dk_42 (dk_at dksJ14_equals_1 3 rfl rfl)
theorem dJ14_equals_26 : decode cJ14_equals 26 = .ok (.getfield 15, 3) := dk_180 0 15 (dk_at dksJ14_equals_1 4 rfl rfl)
theorem dJ14_equals_29 : decode cJ14_equals 29 = .ok (.aload_n 2, 1) := dk_44 (dk_at dksJ14_equals_1 7 rfl rfl)
theorem dJ14_equals_30 : decode cJ14_equals 30 = .ok (.getfield 15, 3) := dk_180 0 15 (dk_at dksJ14_equals_1 8 rfl rfl)
theorem dJ14_equals_33 : decode cJ14_equals 33 = .ok (.if_icmp .ne 21, 3) := dk_160 0 21 (dk_at dksJ14_equals_1 11 rfl rfl)
theorem dJ14_equals_36 : decode cJ14_equals 36 = .ok (.aload_n 0, 1) := dk_42 (dk_at dksJ14_equals_1 14 rfl rfl)
theorem dJ14_equals_37 : decode cJ14_equals 37 = .ok (.getfield 9, 3) := dk_180 0 9 (dk_at dksJ14_equals_1 15 rfl rfl)
theorem dJ14_equals_40 : decode cJ14_equals 40 = .ok (.aload_n 2, 1) := dk_44 (dk_at dksJ14_equals_1 18 rfl rfl)
theorem dJ14_equals_41 : decode cJ14_equals 41 = .ok (.getfield 9, 3) := dk_180 0 9 (dk_at dksJ14_equals_1 19 rfl rfl)
theorem dJ14_equals_44 : decode cJ14_equals 44 = .ok (.invokestatic 541, 3) := dk_184 2 29 (dk_at dksJ14_equals_2 0 rfl rfl)
theorem dJ14_equals_47 : decode cJ14_equals 47 = .ok (.ifCond .eq 7, 3) := dk_153 0 7 (dk_at dksJ14_equals_2 3 rfl rfl)
theorem dJ14_equals_50 : decode cJ14_equals 50 = .ok (.iconst 1, 1) := dk_4 (dk_at dksJ14_equals_2 6 rfl rfl)
theorem dJ14_equals_51 : decode cJ14_equals 51 = .ok (.goto 4, 3) := dk_167 0 4 (dk_at dksJ14_equals_2 7 rfl rfl)
theorem dJ14_equals_54 : decode cJ14_equals 54 = .ok (.iconst 0, 1) := dk_3 (dk_at dksJ14_equals_2 10 rfl rfl)
theorem dJ14_equals_55 : decode cJ14_equals 55 = .ok (.ireturn, 1) := dk_172 (dk_at dksJ14_equals_2 11 rfl rfl)
abbrev cJ14_checkBoundsBeginEnd : ByteArray := prog_35_method_158_code
def yJ14_checkBoundsBeginEnd : MethodName := ⟨RJ14, "checkBoundsBeginEnd", "(III)V"⟩
def dkwJ14_checkBoundsBeginEnd_0 : List UInt8 := [26, 27, 28, 178, 4, 29, 184, 4, 38, 87, 177]
abbrev dktJ14_checkBoundsBeginEnd_0 : List UInt8 := dkwJ14_checkBoundsBeginEnd_0 ++ []
theorem dksJ14_checkBoundsBeginEnd_0 : cJ14_checkBoundsBeginEnd.data.toList.drop 0 = dktJ14_checkBoundsBeginEnd_0 := by decide +kernel
theorem dJ14_checkBoundsBeginEnd_0 : decode cJ14_checkBoundsBeginEnd 0 = .ok (.iload_n 0, 1) := dk_26 (dk_at dksJ14_checkBoundsBeginEnd_0 0 rfl rfl)
theorem dJ14_checkBoundsBeginEnd_1 : decode cJ14_checkBoundsBeginEnd 1 = .ok (.iload_n 1, 1) := dk_27 (dk_at dksJ14_checkBoundsBeginEnd_0 1 rfl rfl)
theorem dJ14_checkBoundsBeginEnd_2 : decode cJ14_checkBoundsBeginEnd 2 = .ok (.iload_n 2, 1) := dk_28 (dk_at dksJ14_checkBoundsBeginEnd_0 2 rfl rfl)
theorem dJ14_checkBoundsBeginEnd_3 : decode cJ14_checkBoundsBeginEnd 3 = .ok (.getstatic 1053, 3) := dk_178 4 29 (dk_at dksJ14_checkBoundsBeginEnd_0 3 rfl rfl)
theorem dJ14_checkBoundsBeginEnd_6 : decode cJ14_checkBoundsBeginEnd 6 = .ok (.invokestatic 1062, 3) := dk_184 4 38 (dk_at dksJ14_checkBoundsBeginEnd_0 6 rfl rfl)
theorem dJ14_checkBoundsBeginEnd_9 : decode cJ14_checkBoundsBeginEnd 9 = .ok (.pop, 1) := dk_87 (dk_at dksJ14_checkBoundsBeginEnd_0 9 rfl rfl)
theorem dJ14_checkBoundsBeginEnd_10 : decode cJ14_checkBoundsBeginEnd 10 = .ok (.return_, 1) := dk_177 (dk_at dksJ14_checkBoundsBeginEnd_0 10 rfl rfl)
abbrev cJ14_length : ByteArray := prog_35_method_54_code
def yJ14_length : MethodName := ⟨RJ14, "length", "()I"⟩
def dkwJ14_length_0 : List UInt8 := [42, 180, 0, 9, 190, 42, 182, 1, 79, 122, 172]
abbrev dktJ14_length_0 : List UInt8 := dkwJ14_length_0 ++ []
theorem dksJ14_length_0 : cJ14_length.data.toList.drop 0 = dktJ14_length_0 := by decide +kernel
theorem dJ14_length_0 : decode cJ14_length 0 = .ok (.aload_n 0, 1) := dk_42 (dk_at dksJ14_length_0 0 rfl rfl)
theorem dJ14_length_1 : decode cJ14_length 1 = .ok (.getfield 9, 3) := dk_180 0 9 (dk_at dksJ14_length_0 1 rfl rfl)
theorem dJ14_length_4 : decode cJ14_length 4 = .ok (.arraylength, 1) := dk_190 (dk_at dksJ14_length_0 4 rfl rfl)
theorem dJ14_length_5 : decode cJ14_length 5 = .ok (.aload_n 0, 1) := dk_42 (dk_at dksJ14_length_0 5 rfl rfl)
theorem dJ14_length_6 : decode cJ14_length 6 = .ok (.invokevirtual 335, 3) := dk_182 1 79 (dk_at dksJ14_length_0 6 rfl rfl)
theorem dJ14_length_9 : decode cJ14_length 9 = .ok (.ishr, 1) := dk_122 (dk_at dksJ14_length_0 9 rfl rfl)
theorem dJ14_length_10 : decode cJ14_length 10 = .ok (.ireturn, 1) := dk_172 (dk_at dksJ14_length_0 10 rfl rfl)
abbrev cJ14_coder : ByteArray := prog_35_method_152_code
def yJ14_coder : MethodName := ⟨RJ14, "coder", "()B"⟩
def dkwJ14_coder_0 : List UInt8 := [178, 0, 38, 153, 0, 10, 42, 180, 0, 15, 167, 0, 4, 4, 172]
abbrev dktJ14_coder_0 : List UInt8 := dkwJ14_coder_0 ++ []
theorem dksJ14_coder_0 : cJ14_coder.data.toList.drop 0 = dktJ14_coder_0 := by decide +kernel
theorem dJ14_coder_0 : decode cJ14_coder 0 = .ok (.getstatic 38, 3) := dk_178 0 38 (dk_at dksJ14_coder_0 0 rfl rfl)
theorem dJ14_coder_3 : decode cJ14_coder 3 = .ok (.ifCond .eq 10, 3) := dk_153 0 10 (dk_at dksJ14_coder_0 3 rfl rfl)
theorem dJ14_coder_6 : decode cJ14_coder 6 = .ok (.aload_n 0, 1) := dk_42 (dk_at dksJ14_coder_0 6 rfl rfl)
theorem dJ14_coder_7 : decode cJ14_coder 7 = .ok (.getfield 15, 3) := dk_180 0 15 (dk_at dksJ14_coder_0 7 rfl rfl)
theorem dJ14_coder_10 : decode cJ14_coder 10 = .ok (.goto 4, 3) := dk_167 0 4 (dk_at dksJ14_coder_0 10 rfl rfl)
theorem dJ14_coder_13 : decode cJ14_coder 13 = .ok (.iconst 1, 1) := dk_4 (dk_at dksJ14_coder_0 13 rfl rfl)
theorem dJ14_coder_14 : decode cJ14_coder 14 = .ok (.ireturn, 1) := dk_172 (dk_at dksJ14_coder_0 14 rfl rfl)
abbrev cJ14_checkBoundsOffCount : ByteArray := prog_35_method_157_code
def yJ14_checkBoundsOffCount : MethodName := ⟨RJ14, "checkBoundsOffCount", "(III)I"⟩
def dkwJ14_checkBoundsOffCount_0 : List UInt8 := [26, 27, 28, 178, 4, 29, 184, 4, 41, 172]
abbrev dktJ14_checkBoundsOffCount_0 : List UInt8 := dkwJ14_checkBoundsOffCount_0 ++ []
theorem dksJ14_checkBoundsOffCount_0 : cJ14_checkBoundsOffCount.data.toList.drop 0 = dktJ14_checkBoundsOffCount_0 := by decide +kernel
theorem dJ14_checkBoundsOffCount_0 : decode cJ14_checkBoundsOffCount 0 = .ok (.iload_n 0, 1) := dk_26 (dk_at dksJ14_checkBoundsOffCount_0 0 rfl rfl)
theorem dJ14_checkBoundsOffCount_1 : decode cJ14_checkBoundsOffCount 1 = .ok (.iload_n 1, 1) := dk_27 (dk_at dksJ14_checkBoundsOffCount_0 1 rfl rfl)
theorem dJ14_checkBoundsOffCount_2 : decode cJ14_checkBoundsOffCount 2 = .ok (.iload_n 2, 1) := dk_28 (dk_at dksJ14_checkBoundsOffCount_0 2 rfl rfl)
theorem dJ14_checkBoundsOffCount_3 : decode cJ14_checkBoundsOffCount 3 = .ok (.getstatic 1053, 3) := dk_178 4 29 (dk_at dksJ14_checkBoundsOffCount_0 3 rfl rfl)
theorem dJ14_checkBoundsOffCount_6 : decode cJ14_checkBoundsOffCount 6 = .ok (.invokestatic 1065, 3) := dk_184 4 41 (dk_at dksJ14_checkBoundsOffCount_0 6 rfl rfl)
theorem dJ14_checkBoundsOffCount_9 : decode cJ14_checkBoundsOffCount 9 = .ok (.ireturn, 1) := dk_172 (dk_at dksJ14_checkBoundsOffCount_0 9 rfl rfl)
abbrev cJ14_getBytes : ByteArray := prog_35_method_147_code
def yJ14_getBytes : MethodName := ⟨RJ14, "getBytes", "([BIB)V"⟩
def dkwJ14_getBytes_1 : List UInt8 := [184, 0, 212, 167, 0, 18, 42, 180, 0, 9, 3, 43, 28, 42, 180, 0, 9, 190, 184, 0, 106, 177]
abbrev dktJ14_getBytes_1 : List UInt8 := dkwJ14_getBytes_1 ++ []
def dkwJ14_getBytes_0 : List UInt8 := [42, 182, 1, 79, 29, 160, 0, 23, 42, 180, 0, 9, 3, 43, 28, 29, 120, 42, 180, 0, 9, 190]
abbrev dktJ14_getBytes_0 : List UInt8 := dkwJ14_getBytes_0 ++ dktJ14_getBytes_1
theorem dksJ14_getBytes_0 : cJ14_getBytes.data.toList.drop 0 = dktJ14_getBytes_0 := by decide +kernel
theorem dksJ14_getBytes_1 : cJ14_getBytes.data.toList.drop 22 = dktJ14_getBytes_1 := dk_seg dksJ14_getBytes_0 22 rfl rfl
theorem dJ14_getBytes_0 : decode cJ14_getBytes 0 = .ok (.aload_n 0, 1) := dk_42 (dk_at dksJ14_getBytes_0 0 rfl rfl)
theorem dJ14_getBytes_1 : decode cJ14_getBytes 1 = .ok (.invokevirtual 335, 3) := dk_182 1 79 (dk_at dksJ14_getBytes_0 1 rfl rfl)
theorem dJ14_getBytes_4 : decode cJ14_getBytes 4 = .ok (.iload_n 3, 1) := dk_29 (dk_at dksJ14_getBytes_0 4 rfl rfl)
theorem dJ14_getBytes_5 : decode cJ14_getBytes 5 = .ok (.if_icmp .ne 23, 3) := dk_160 0 23 (dk_at dksJ14_getBytes_0 5 rfl rfl)
theorem dJ14_getBytes_8 : decode cJ14_getBytes 8 = .ok (.aload_n 0, 1) := dk_42 (dk_at dksJ14_getBytes_0 8 rfl rfl)
theorem dJ14_getBytes_9 : decode cJ14_getBytes 9 = .ok (.getfield 9, 3) := dk_180 0 9 (dk_at dksJ14_getBytes_0 9 rfl rfl)
theorem dJ14_getBytes_12 : decode cJ14_getBytes 12 = .ok (.iconst 0, 1) := dk_3 (dk_at dksJ14_getBytes_0 12 rfl rfl)
theorem dJ14_getBytes_13 : decode cJ14_getBytes 13 = .ok (.aload_n 1, 1) := dk_43 (dk_at dksJ14_getBytes_0 13 rfl rfl)
theorem dJ14_getBytes_14 : decode cJ14_getBytes 14 = .ok (.iload_n 2, 1) := dk_28 (dk_at dksJ14_getBytes_0 14 rfl rfl)
theorem dJ14_getBytes_15 : decode cJ14_getBytes 15 = .ok (.iload_n 3, 1) := dk_29 (dk_at dksJ14_getBytes_0 15 rfl rfl)
theorem dJ14_getBytes_16 : decode cJ14_getBytes 16 = .ok (.ishl, 1) := dk_120 (dk_at dksJ14_getBytes_0 16 rfl rfl)
theorem dJ14_getBytes_17 : decode cJ14_getBytes 17 = .ok (.aload_n 0, 1) := dk_42 (dk_at dksJ14_getBytes_0 17 rfl rfl)
theorem dJ14_getBytes_18 : decode cJ14_getBytes 18 = .ok (.getfield 9, 3) := dk_180 0 9 (dk_at dksJ14_getBytes_0 18 rfl rfl)
theorem dJ14_getBytes_21 : decode cJ14_getBytes 21 = .ok (.arraylength, 1) := dk_190 (dk_at dksJ14_getBytes_0 21 rfl rfl)
theorem dJ14_getBytes_22 : decode cJ14_getBytes 22 = .ok (.invokestatic 212, 3) := dk_184 0 212 (dk_at dksJ14_getBytes_1 0 rfl rfl)
theorem dJ14_getBytes_25 : decode cJ14_getBytes 25 = .ok (.goto 18, 3) := dk_167 0 18 (dk_at dksJ14_getBytes_1 3 rfl rfl)
theorem dJ14_getBytes_28 : decode cJ14_getBytes 28 = .ok (.aload_n 0, 1) := dk_42 (dk_at dksJ14_getBytes_1 6 rfl rfl)
theorem dJ14_getBytes_29 : decode cJ14_getBytes 29 = .ok (.getfield 9, 3) := dk_180 0 9 (dk_at dksJ14_getBytes_1 7 rfl rfl)
theorem dJ14_getBytes_32 : decode cJ14_getBytes 32 = .ok (.iconst 0, 1) := dk_3 (dk_at dksJ14_getBytes_1 10 rfl rfl)
theorem dJ14_getBytes_33 : decode cJ14_getBytes 33 = .ok (.aload_n 1, 1) := dk_43 (dk_at dksJ14_getBytes_1 11 rfl rfl)
theorem dJ14_getBytes_34 : decode cJ14_getBytes 34 = .ok (.iload_n 2, 1) := dk_28 (dk_at dksJ14_getBytes_1 12 rfl rfl)
theorem dJ14_getBytes_35 : decode cJ14_getBytes 35 = .ok (.aload_n 0, 1) := dk_42 (dk_at dksJ14_getBytes_1 13 rfl rfl)
theorem dJ14_getBytes_36 : decode cJ14_getBytes 36 = .ok (.getfield 9, 3) := dk_180 0 9 (dk_at dksJ14_getBytes_1 14 rfl rfl)
theorem dJ14_getBytes_39 : decode cJ14_getBytes 39 = .ok (.arraylength, 1) := dk_190 (dk_at dksJ14_getBytes_1 17 rfl rfl)
theorem dJ14_getBytes_40 : decode cJ14_getBytes 40 = .ok (.invokestatic 106, 3) := dk_184 0 106 (dk_at dksJ14_getBytes_1 18 rfl rfl)
theorem dJ14_getBytes_43 : decode cJ14_getBytes 43 = .ok (.return_, 1) := dk_177 (dk_at dksJ14_getBytes_1 21 rfl rfl)
abbrev cJ14_init : ByteArray := prog_35_method_53_code
def yJ14_init : MethodName := ⟨RJ14, "<init>", "(Ljava/lang/StringBuilder;)V"⟩
def dkwJ14_init_0 : List UInt8 := [42, 43, 1, 183, 1, 233, 177]
abbrev dktJ14_init_0 : List UInt8 := dkwJ14_init_0 ++ []
theorem dksJ14_init_0 : cJ14_init.data.toList.drop 0 = dktJ14_init_0 := by decide +kernel
theorem dJ14_init_0 : decode cJ14_init 0 = .ok (.aload_n 0, 1) := dk_42 (dk_at dksJ14_init_0 0 rfl rfl)
theorem dJ14_init_1 : decode cJ14_init 1 = .ok (.aload_n 1, 1) := dk_43 (dk_at dksJ14_init_0 1 rfl rfl)
theorem dJ14_init_2 : decode cJ14_init 2 = .ok (.aconst_null, 1) := dk_1 (dk_at dksJ14_init_0 2 rfl rfl)
theorem dJ14_init_3 : decode cJ14_init 3 = .ok (.invokespecial 489, 3) := dk_183 1 233 (dk_at dksJ14_init_0 3 rfl rfl)
theorem dJ14_init_6 : decode cJ14_init 6 = .ok (.return_, 1) := dk_177 (dk_at dksJ14_init_0 6 rfl rfl)
abbrev cJ14_init_2 : ByteArray := prog_35_method_150_code
def yJ14_init_2 : MethodName := ⟨RJ14, "<init>", "(Ljava/lang/AbstractStringBuilder;Ljava/lang/Void;)V"⟩
def dkwJ14_init_2_4 : List UInt8 := [181, 0, 9, 177]
abbrev dktJ14_init_2_4 : List UInt8 := dkwJ14_init_2_4 ++ []
def dkwJ14_init_2_3 : List UInt8 := [184, 0, 47, 181, 0, 15, 177, 42, 4, 181, 0, 15, 42, 45, 3, 21, 4, 4, 120, 184, 0, 54]
abbrev dktJ14_init_2_3 : List UInt8 := dkwJ14_init_2_3 ++ dktJ14_init_2_4
def dkwJ14_init_2_2 : List UInt8 := [180, 4, 24, 153, 0, 28, 42, 45, 3, 21, 4, 184, 4, 27, 181, 0, 9, 42, 42, 180, 0, 9, 21, 4]
abbrev dktJ14_init_2_2 : List UInt8 := dkwJ14_init_2_2 ++ dktJ14_init_2_3
def dkwJ14_init_2_1 : List UInt8 := [181, 0, 15, 42, 45, 3, 21, 4, 184, 0, 54, 181, 0, 9, 167, 0, 59, 178, 0, 38, 153, 0, 35, 43]
abbrev dktJ14_init_2_1 : List UInt8 := dkwJ14_init_2_1 ++ dktJ14_init_2_2
def dkwJ14_init_2_0 : List UInt8 := [42, 183, 0, 1, 43, 182, 2, 40, 78, 43, 182, 2, 37, 54, 4, 43, 182, 4, 23, 153, 0, 22, 42, 3]
abbrev dktJ14_init_2_0 : List UInt8 := dkwJ14_init_2_0 ++ dktJ14_init_2_1
theorem dksJ14_init_2_0 : cJ14_init_2.data.toList.drop 0 = dktJ14_init_2_0 := by decide +kernel
theorem dksJ14_init_2_1 : cJ14_init_2.data.toList.drop 24 = dktJ14_init_2_1 := dk_seg dksJ14_init_2_0 24 rfl rfl
theorem dksJ14_init_2_2 : cJ14_init_2.data.toList.drop 48 = dktJ14_init_2_2 := dk_seg dksJ14_init_2_1 24 rfl rfl
theorem dksJ14_init_2_3 : cJ14_init_2.data.toList.drop 72 = dktJ14_init_2_3 := dk_seg dksJ14_init_2_2 24 rfl rfl
theorem dksJ14_init_2_4 : cJ14_init_2.data.toList.drop 94 = dktJ14_init_2_4 := dk_seg dksJ14_init_2_3 22 rfl rfl
theorem dJ14_init_2_0 : decode cJ14_init_2 0 = .ok (.aload_n 0, 1) := dk_42 (dk_at dksJ14_init_2_0 0 rfl rfl)
theorem dJ14_init_2_1 : decode cJ14_init_2 1 = .ok (.invokespecial 1, 3) := dk_183 0 1 (dk_at dksJ14_init_2_0 1 rfl rfl)
theorem dJ14_init_2_4 : decode cJ14_init_2 4 = .ok (.aload_n 1, 1) := dk_43 (dk_at dksJ14_init_2_0 4 rfl rfl)
theorem dJ14_init_2_5 : decode cJ14_init_2 5 = .ok (.invokevirtual 552, 3) := dk_182 2 40 (dk_at dksJ14_init_2_0 5 rfl rfl)
theorem dJ14_init_2_8 : decode cJ14_init_2 8 = .ok (.astore_n 3, 1) := dk_78 (dk_at dksJ14_init_2_0 8 rfl rfl)
theorem dJ14_init_2_9 : decode cJ14_init_2 9 = .ok (.aload_n 1, 1) := dk_43 (dk_at dksJ14_init_2_0 9 rfl rfl)
theorem dJ14_init_2_10 : decode cJ14_init_2 10 = .ok (.invokevirtual 549, 3) := dk_182 2 37 (dk_at dksJ14_init_2_0 10 rfl rfl)
theorem dJ14_init_2_13 : decode cJ14_init_2 13 = .ok (.istore 4, 2) := dk_54 4 (dk_at dksJ14_init_2_0 13 rfl rfl)
theorem dJ14_init_2_15 : decode cJ14_init_2 15 = .ok (.aload_n 1, 1) := dk_43 (dk_at dksJ14_init_2_0 15 rfl rfl)
theorem dJ14_init_2_16 : decode cJ14_init_2 16 = .ok (.invokevirtual 1047, 3) := dk_182 4 23 (dk_at dksJ14_init_2_0 16 rfl rfl)
theorem dJ14_init_2_19 : decode cJ14_init_2 19 = .ok (.ifCond .eq 22, 3) := dk_153 0 22 (dk_at dksJ14_init_2_0 19 rfl rfl)
theorem dJ14_init_2_22 : decode cJ14_init_2 22 = .ok (.aload_n 0, 1) := dk_42 (dk_at dksJ14_init_2_0 22 rfl rfl)
theorem dJ14_init_2_23 : decode cJ14_init_2 23 = .ok (.iconst 0, 1) := dk_3 (dk_at dksJ14_init_2_0 23 rfl rfl)
theorem dJ14_init_2_24 : decode cJ14_init_2 24 = .ok (.putfield 15, 3) := dk_181 0 15 (dk_at dksJ14_init_2_1 0 rfl rfl)
theorem dJ14_init_2_27 : decode cJ14_init_2 27 = .ok (.aload_n 0, 1) := dk_42 (dk_at dksJ14_init_2_1 3 rfl rfl)
theorem dJ14_init_2_28 : decode cJ14_init_2 28 = .ok (.aload_n 3, 1) := dk_45 (dk_at dksJ14_init_2_1 4 rfl rfl)
theorem dJ14_init_2_29 : decode cJ14_init_2 29 = .ok (.iconst 0, 1) := dk_3 (dk_at dksJ14_init_2_1 5 rfl rfl)
theorem dJ14_init_2_30 : decode cJ14_init_2 30 = .ok (.iload 4, 2) := dk_21 4 (dk_at dksJ14_init_2_1 6 rfl rfl)
theorem dJ14_init_2_32 : decode cJ14_init_2 32 = .ok (.invokestatic 54, 3) := dk_184 0 54 (dk_at dksJ14_init_2_1 8 rfl rfl)
theorem dJ14_init_2_35 : decode cJ14_init_2 35 = .ok (.putfield 9, 3) := dk_181 0 9 (dk_at dksJ14_init_2_1 11 rfl rfl)
theorem dJ14_init_2_38 : decode cJ14_init_2 38 = .ok (.goto 59, 3) := dk_167 0 59 (dk_at dksJ14_init_2_1 14 rfl rfl)
theorem dJ14_init_2_41 : decode cJ14_init_2 41 = .ok (.getstatic 38, 3) := dk_178 0 38 (dk_at dksJ14_init_2_1 17 rfl rfl)
theorem dJ14_init_2_44 : decode cJ14_init_2 44 = .ok (.ifCond .eq 35, 3) := dk_153 0 35 (dk_at dksJ14_init_2_1 20 rfl rfl)
theorem dJ14_init_2_47 : decode cJ14_init_2 47 = .ok (.aload_n 1, 1) := dk_43 (dk_at dksJ14_init_2_1 23 rfl rfl)
theorem dJ14_init_2_48 : decode cJ14_init_2 48 = .ok (.getfield 1048, 3) := dk_180 4 24 (dk_at dksJ14_init_2_2 0 rfl rfl)
theorem dJ14_init_2_51 : decode cJ14_init_2 51 = .ok (.ifCond .eq 28, 3) := dk_153 0 28 (dk_at dksJ14_init_2_2 3 rfl rfl)
theorem dJ14_init_2_54 : decode cJ14_init_2 54 = .ok (.aload_n 0, 1) := dk_42 (dk_at dksJ14_init_2_2 6 rfl rfl)
theorem dJ14_init_2_55 : decode cJ14_init_2 55 = .ok (.aload_n 3, 1) := dk_45 (dk_at dksJ14_init_2_2 7 rfl rfl)
theorem dJ14_init_2_56 : decode cJ14_init_2 56 = .ok (.iconst 0, 1) := dk_3 (dk_at dksJ14_init_2_2 8 rfl rfl)
theorem dJ14_init_2_57 : decode cJ14_init_2 57 = .ok (.iload 4, 2) := dk_21 4 (dk_at dksJ14_init_2_2 9 rfl rfl)
theorem dJ14_init_2_59 : decode cJ14_init_2 59 = .ok (.invokestatic 1051, 3) := dk_184 4 27 (dk_at dksJ14_init_2_2 11 rfl rfl)
theorem dJ14_init_2_62 : decode cJ14_init_2 62 = .ok (.putfield 9, 3) := dk_181 0 9 (dk_at dksJ14_init_2_2 14 rfl rfl)
theorem dJ14_init_2_65 : decode cJ14_init_2 65 = .ok (.aload_n 0, 1) := dk_42 (dk_at dksJ14_init_2_2 17 rfl rfl)
theorem dJ14_init_2_66 : decode cJ14_init_2 66 = .ok (.aload_n 0, 1) := dk_42 (dk_at dksJ14_init_2_2 18 rfl rfl)
theorem dJ14_init_2_67 : decode cJ14_init_2 67 = .ok (.getfield 9, 3) := dk_180 0 9 (dk_at dksJ14_init_2_2 19 rfl rfl)
theorem dJ14_init_2_70 : decode cJ14_init_2 70 = .ok (.iload 4, 2) := dk_21 4 (dk_at dksJ14_init_2_2 22 rfl rfl)
theorem dJ14_init_2_72 : decode cJ14_init_2 72 = .ok (.invokestatic 47, 3) := dk_184 0 47 (dk_at dksJ14_init_2_3 0 rfl rfl)
theorem dJ14_init_2_75 : decode cJ14_init_2 75 = .ok (.putfield 15, 3) := dk_181 0 15 (dk_at dksJ14_init_2_3 3 rfl rfl)
theorem dJ14_init_2_78 : decode cJ14_init_2 78 = .ok (.return_, 1) := dk_177 (dk_at dksJ14_init_2_3 6 rfl rfl)
theorem dJ14_init_2_79 : decode cJ14_init_2 79 = .ok (.aload_n 0, 1) := dk_42 (dk_at dksJ14_init_2_3 7 rfl rfl)
theorem dJ14_init_2_80 : decode cJ14_init_2 80 = .ok (.iconst 1, 1) := dk_4 (dk_at dksJ14_init_2_3 8 rfl rfl)
theorem dJ14_init_2_81 : decode cJ14_init_2 81 = .ok (.putfield 15, 3) := dk_181 0 15 (dk_at dksJ14_init_2_3 9 rfl rfl)
theorem dJ14_init_2_84 : decode cJ14_init_2 84 = .ok (.aload_n 0, 1) := dk_42 (dk_at dksJ14_init_2_3 12 rfl rfl)
theorem dJ14_init_2_85 : decode cJ14_init_2 85 = .ok (.aload_n 3, 1) := dk_45 (dk_at dksJ14_init_2_3 13 rfl rfl)
theorem dJ14_init_2_86 : decode cJ14_init_2 86 = .ok (.iconst 0, 1) := dk_3 (dk_at dksJ14_init_2_3 14 rfl rfl)
theorem dJ14_init_2_87 : decode cJ14_init_2 87 = .ok (.iload 4, 2) := dk_21 4 (dk_at dksJ14_init_2_3 15 rfl rfl)
theorem dJ14_init_2_89 : decode cJ14_init_2 89 = .ok (.iconst 1, 1) := dk_4 (dk_at dksJ14_init_2_3 17 rfl rfl)
theorem dJ14_init_2_90 : decode cJ14_init_2 90 = .ok (.ishl, 1) := dk_120 (dk_at dksJ14_init_2_3 18 rfl rfl)
theorem dJ14_init_2_91 : decode cJ14_init_2 91 = .ok (.invokestatic 54, 3) := dk_184 0 54 (dk_at dksJ14_init_2_3 19 rfl rfl)
theorem dJ14_init_2_94 : decode cJ14_init_2 94 = .ok (.putfield 9, 3) := dk_181 0 9 (dk_at dksJ14_init_2_4 0 rfl rfl)
theorem dJ14_init_2_97 : decode cJ14_init_2 97 = .ok (.return_, 1) := dk_177 (dk_at dksJ14_init_2_4 3 rfl rfl)
abbrev cJ14_compareTo : ByteArray := prog_35_method_162_code
def yJ14_compareTo : MethodName := ⟨RJ14, "compareTo", "(Ljava/lang/Object;)I"⟩
def dkwJ14_compareTo_0 : List UInt8 := [42, 43, 192, 0, 10, 182, 4, 60, 172]
abbrev dktJ14_compareTo_0 : List UInt8 := dkwJ14_compareTo_0 ++ []
theorem dksJ14_compareTo_0 : cJ14_compareTo.data.toList.drop 0 = dktJ14_compareTo_0 := by decide +kernel
theorem dJ14_compareTo_0 : decode cJ14_compareTo 0 = .ok (.aload_n 0, 1) := dk_42 (dk_at dksJ14_compareTo_0 0 rfl rfl)
theorem dJ14_compareTo_1 : decode cJ14_compareTo 1 = .ok (.aload_n 1, 1) := dk_43 (dk_at dksJ14_compareTo_0 1 rfl rfl)
theorem dJ14_compareTo_2 : decode cJ14_compareTo 2 = .ok (.checkcast 10, 3) := dk_192 0 10 (dk_at dksJ14_compareTo_0 2 rfl rfl)
theorem dJ14_compareTo_5 : decode cJ14_compareTo 5 = .ok (.invokevirtual 1084, 3) := dk_182 4 60 (dk_at dksJ14_compareTo_0 5 rfl rfl)
theorem dJ14_compareTo_8 : decode cJ14_compareTo 8 = .ok (.ireturn, 1) := dk_172 (dk_at dksJ14_compareTo_0 8 rfl rfl)
abbrev cJ14_compareTo_2 : ByteArray := prog_35_method_71_code
def yJ14_compareTo_2 : MethodName := ⟨RJ14, "compareTo", "(Ljava/lang/String;)I"⟩
def dkwJ14_compareTo_2_2 : List UInt8 := [154, 0, 11, 44, 45, 184, 2, 79, 167, 0, 8, 44, 45, 184, 2, 82, 172]
abbrev dktJ14_compareTo_2_2 : List UInt8 := dkwJ14_compareTo_2_2 ++ []
def dkwJ14_compareTo_2_1 : List UInt8 := [160, 0, 22, 21, 4, 154, 0, 11, 44, 45, 184, 2, 74, 167, 0, 8, 44, 45, 184, 2, 78, 172, 21, 4]
abbrev dktJ14_compareTo_2_1 : List UInt8 := dkwJ14_compareTo_2_1 ++ dktJ14_compareTo_2_2
def dkwJ14_compareTo_2_0 : List UInt8 := [42, 180, 0, 9, 77, 43, 180, 0, 9, 78, 42, 182, 1, 79, 54, 4, 21, 4, 43, 182, 1, 79]
abbrev dktJ14_compareTo_2_0 : List UInt8 := dkwJ14_compareTo_2_0 ++ dktJ14_compareTo_2_1
theorem dksJ14_compareTo_2_0 : cJ14_compareTo_2.data.toList.drop 0 = dktJ14_compareTo_2_0 := by decide +kernel
theorem dksJ14_compareTo_2_1 : cJ14_compareTo_2.data.toList.drop 22 = dktJ14_compareTo_2_1 := dk_seg dksJ14_compareTo_2_0 22 rfl rfl
theorem dksJ14_compareTo_2_2 : cJ14_compareTo_2.data.toList.drop 46 = dktJ14_compareTo_2_2 := dk_seg dksJ14_compareTo_2_1 24 rfl rfl
theorem dJ14_compareTo_2_0 : decode cJ14_compareTo_2 0 = .ok (.aload_n 0, 1) := dk_42 (dk_at dksJ14_compareTo_2_0 0 rfl rfl)
theorem dJ14_compareTo_2_1 : decode cJ14_compareTo_2 1 = .ok (.getfield 9, 3) := dk_180 0 9 (dk_at dksJ14_compareTo_2_0 1 rfl rfl)
theorem dJ14_compareTo_2_4 : decode cJ14_compareTo_2 4 = .ok (.astore_n 2, 1) := dk_77 (dk_at dksJ14_compareTo_2_0 4 rfl rfl)
theorem dJ14_compareTo_2_5 : decode cJ14_compareTo_2 5 = .ok (.aload_n 1, 1) := dk_43 (dk_at dksJ14_compareTo_2_0 5 rfl rfl)
theorem dJ14_compareTo_2_6 : decode cJ14_compareTo_2 6 = .ok (.getfield 9, 3) := dk_180 0 9 (dk_at dksJ14_compareTo_2_0 6 rfl rfl)
theorem dJ14_compareTo_2_9 : decode cJ14_compareTo_2 9 = .ok (.astore_n 3, 1) := dk_78 (dk_at dksJ14_compareTo_2_0 9 rfl rfl)
theorem dJ14_compareTo_2_10 : decode cJ14_compareTo_2 10 = .ok (.aload_n 0, 1) := dk_42 (dk_at dksJ14_compareTo_2_0 10 rfl rfl)
theorem dJ14_compareTo_2_11 : decode cJ14_compareTo_2 11 = .ok (.invokevirtual 335, 3) := dk_182 1 79 (dk_at dksJ14_compareTo_2_0 11 rfl rfl)
theorem dJ14_compareTo_2_14 : decode cJ14_compareTo_2 14 = .ok (.istore 4, 2) := dk_54 4 (dk_at dksJ14_compareTo_2_0 14 rfl rfl)
theorem dJ14_compareTo_2_16 : decode cJ14_compareTo_2 16 = .ok (.iload 4, 2) := dk_21 4 (dk_at dksJ14_compareTo_2_0 16 rfl rfl)
theorem dJ14_compareTo_2_18 : decode cJ14_compareTo_2 18 = .ok (.aload_n 1, 1) := dk_43 (dk_at dksJ14_compareTo_2_0 18 rfl rfl)
theorem dJ14_compareTo_2_19 : decode cJ14_compareTo_2 19 = .ok (.invokevirtual 335, 3) := dk_182 1 79 (dk_at dksJ14_compareTo_2_0 19 rfl rfl)
theorem dJ14_compareTo_2_22 : decode cJ14_compareTo_2 22 = .ok (.if_icmp .ne 22, 3) := dk_160 0 22 (dk_at dksJ14_compareTo_2_1 0 rfl rfl)
theorem dJ14_compareTo_2_25 : decode cJ14_compareTo_2 25 = .ok (.iload 4, 2) := dk_21 4 (dk_at dksJ14_compareTo_2_1 3 rfl rfl)
theorem dJ14_compareTo_2_27 : decode cJ14_compareTo_2 27 = .ok (.ifCond .ne 11, 3) := dk_154 0 11 (dk_at dksJ14_compareTo_2_1 5 rfl rfl)
theorem dJ14_compareTo_2_30 : decode cJ14_compareTo_2 30 = .ok (.aload_n 2, 1) := dk_44 (dk_at dksJ14_compareTo_2_1 8 rfl rfl)
theorem dJ14_compareTo_2_31 : decode cJ14_compareTo_2 31 = .ok (.aload_n 3, 1) := dk_45 (dk_at dksJ14_compareTo_2_1 9 rfl rfl)
theorem dJ14_compareTo_2_32 : decode cJ14_compareTo_2 32 = .ok (.invokestatic 586, 3) := dk_184 2 74 (dk_at dksJ14_compareTo_2_1 10 rfl rfl)
theorem dJ14_compareTo_2_35 : decode cJ14_compareTo_2 35 = .ok (.goto 8, 3) := dk_167 0 8 (dk_at dksJ14_compareTo_2_1 13 rfl rfl)
theorem dJ14_compareTo_2_38 : decode cJ14_compareTo_2 38 = .ok (.aload_n 2, 1) := dk_44 (dk_at dksJ14_compareTo_2_1 16 rfl rfl)
theorem dJ14_compareTo_2_39 : decode cJ14_compareTo_2 39 = .ok (.aload_n 3, 1) := dk_45 (dk_at dksJ14_compareTo_2_1 17 rfl rfl)
theorem dJ14_compareTo_2_40 : decode cJ14_compareTo_2 40 = .ok (.invokestatic 590, 3) := dk_184 2 78 (dk_at dksJ14_compareTo_2_1 18 rfl rfl)
theorem dJ14_compareTo_2_43 : decode cJ14_compareTo_2 43 = .ok (.ireturn, 1) := dk_172 (dk_at dksJ14_compareTo_2_1 21 rfl rfl)
theorem dJ14_compareTo_2_44 : decode cJ14_compareTo_2 44 = .ok (.iload 4, 2) := dk_21 4 (dk_at dksJ14_compareTo_2_1 22 rfl rfl)
theorem dJ14_compareTo_2_46 : decode cJ14_compareTo_2 46 = .ok (.ifCond .ne 11, 3) := dk_154 0 11 (dk_at dksJ14_compareTo_2_2 0 rfl rfl)
theorem dJ14_compareTo_2_49 : decode cJ14_compareTo_2 49 = .ok (.aload_n 2, 1) := dk_44 (dk_at dksJ14_compareTo_2_2 3 rfl rfl)
theorem dJ14_compareTo_2_50 : decode cJ14_compareTo_2 50 = .ok (.aload_n 3, 1) := dk_45 (dk_at dksJ14_compareTo_2_2 4 rfl rfl)
theorem dJ14_compareTo_2_51 : decode cJ14_compareTo_2 51 = .ok (.invokestatic 591, 3) := dk_184 2 79 (dk_at dksJ14_compareTo_2_2 5 rfl rfl)
theorem dJ14_compareTo_2_54 : decode cJ14_compareTo_2 54 = .ok (.goto 8, 3) := dk_167 0 8 (dk_at dksJ14_compareTo_2_2 8 rfl rfl)
theorem dJ14_compareTo_2_57 : decode cJ14_compareTo_2 57 = .ok (.aload_n 2, 1) := dk_44 (dk_at dksJ14_compareTo_2_2 11 rfl rfl)
theorem dJ14_compareTo_2_58 : decode cJ14_compareTo_2 58 = .ok (.aload_n 3, 1) := dk_45 (dk_at dksJ14_compareTo_2_2 12 rfl rfl)
theorem dJ14_compareTo_2_59 : decode cJ14_compareTo_2 59 = .ok (.invokestatic 594, 3) := dk_184 2 82 (dk_at dksJ14_compareTo_2_2 13 rfl rfl)
theorem dJ14_compareTo_2_62 : decode cJ14_compareTo_2 62 = .ok (.ireturn, 1) := dk_172 (dk_at dksJ14_compareTo_2_2 16 rfl rfl)
abbrev cJ14_checkOffset : ByteArray := prog_35_method_156_code
def yJ14_checkOffset : MethodName := ⟨RJ14, "checkOffset", "(II)V"⟩
def dkwJ14_checkOffset_0 : List UInt8 := [26, 27, 27, 178, 4, 29, 184, 4, 38, 87, 177]
abbrev dktJ14_checkOffset_0 : List UInt8 := dkwJ14_checkOffset_0 ++ []
theorem dksJ14_checkOffset_0 : cJ14_checkOffset.data.toList.drop 0 = dktJ14_checkOffset_0 := by decide +kernel
theorem dJ14_checkOffset_0 : decode cJ14_checkOffset 0 = .ok (.iload_n 0, 1) := dk_26 (dk_at dksJ14_checkOffset_0 0 rfl rfl)
theorem dJ14_checkOffset_1 : decode cJ14_checkOffset 1 = .ok (.iload_n 1, 1) := dk_27 (dk_at dksJ14_checkOffset_0 1 rfl rfl)
theorem dJ14_checkOffset_2 : decode cJ14_checkOffset 2 = .ok (.iload_n 1, 1) := dk_27 (dk_at dksJ14_checkOffset_0 2 rfl rfl)
theorem dJ14_checkOffset_3 : decode cJ14_checkOffset 3 = .ok (.getstatic 1053, 3) := dk_178 4 29 (dk_at dksJ14_checkOffset_0 3 rfl rfl)
theorem dJ14_checkOffset_6 : decode cJ14_checkOffset 6 = .ok (.invokestatic 1062, 3) := dk_184 4 38 (dk_at dksJ14_checkOffset_0 6 rfl rfl)
theorem dJ14_checkOffset_9 : decode cJ14_checkOffset 9 = .ok (.pop, 1) := dk_87 (dk_at dksJ14_checkOffset_0 9 rfl rfl)
theorem dJ14_checkOffset_10 : decode cJ14_checkOffset 10 = .ok (.return_, 1) := dk_177 (dk_at dksJ14_checkOffset_0 10 rfl rfl)
abbrev cJ14_hashCode : ByteArray := prog_35_method_78_code
def yJ14_hashCode : MethodName := ⟨RJ14, "hashCode", "()I"⟩
def dkwJ14_hashCode_2 : List UInt8 := [181, 0, 23, 167, 0, 8, 42, 27, 181, 0, 19, 27, 172]
abbrev dktJ14_hashCode_2 : List UInt8 := dkwJ14_hashCode_2 ++ []
def dkwJ14_hashCode_1 : List UInt8 := [180, 0, 9, 184, 2, 116, 167, 0, 10, 42, 180, 0, 9, 184, 2, 120, 60, 27, 154, 0, 11, 42, 4]
abbrev dktJ14_hashCode_1 : List UInt8 := dkwJ14_hashCode_1 ++ dktJ14_hashCode_2
def dkwJ14_hashCode_0 : List UInt8 := [42, 180, 0, 19, 60, 27, 154, 0, 52, 42, 180, 0, 23, 154, 0, 45, 42, 182, 1, 236, 153, 0, 13, 42]
abbrev dktJ14_hashCode_0 : List UInt8 := dkwJ14_hashCode_0 ++ dktJ14_hashCode_1
theorem dksJ14_hashCode_0 : cJ14_hashCode.data.toList.drop 0 = dktJ14_hashCode_0 := by decide +kernel
theorem dksJ14_hashCode_1 : cJ14_hashCode.data.toList.drop 24 = dktJ14_hashCode_1 := dk_seg dksJ14_hashCode_0 24 rfl rfl
theorem dksJ14_hashCode_2 : cJ14_hashCode.data.toList.drop 47 = dktJ14_hashCode_2 := dk_seg dksJ14_hashCode_1 23 rfl rfl
theorem dJ14_hashCode_0 : decode cJ14_hashCode 0 = .ok (.aload_n 0, 1) := dk_42 (dk_at dksJ14_hashCode_0 0 rfl rfl)
theorem dJ14_hashCode_1 : decode cJ14_hashCode 1 = .ok (.getfield 19, 3) := dk_180 0 19 (dk_at dksJ14_hashCode_0 1 rfl rfl)
theorem dJ14_hashCode_4 : decode cJ14_hashCode 4 = .ok (.istore_n 1, 1) := dk_60 (dk_at dksJ14_hashCode_0 4 rfl rfl)
theorem dJ14_hashCode_5 : decode cJ14_hashCode 5 = .ok (.iload_n 1, 1) := dk_27 (dk_at dksJ14_hashCode_0 5 rfl rfl)
theorem dJ14_hashCode_6 : decode cJ14_hashCode 6 = .ok (.ifCond .ne 52, 3) := dk_154 0 52 (dk_at dksJ14_hashCode_0 6 rfl rfl)
theorem dJ14_hashCode_9 : decode cJ14_hashCode 9 = .ok (.aload_n 0, 1) := dk_42 (dk_at dksJ14_hashCode_0 9 rfl rfl)
theorem dJ14_hashCode_10 : decode cJ14_hashCode 10 = .ok (.getfield 23, 3) := dk_180 0 23 (dk_at dksJ14_hashCode_0 10 rfl rfl)
theorem dJ14_hashCode_13 : decode cJ14_hashCode 13 = .ok (.ifCond .ne 45, 3) := dk_154 0 45 (dk_at dksJ14_hashCode_0 13 rfl rfl)
theorem dJ14_hashCode_16 : decode cJ14_hashCode 16 = .ok (.aload_n 0, 1) := dk_42 (dk_at dksJ14_hashCode_0 16 rfl rfl)
theorem dJ14_hashCode_17 : decode cJ14_hashCode 17 = .ok (.invokevirtual 492, 3) := dk_182 1 236 (dk_at dksJ14_hashCode_0 17 rfl rfl)
theorem dJ14_hashCode_20 : decode cJ14_hashCode 20 = .ok (.ifCond .eq 13, 3) := dk_153 0 13 (dk_at dksJ14_hashCode_0 20 rfl rfl)
theorem dJ14_hashCode_23 : decode cJ14_hashCode 23 = .ok (.aload_n 0, 1) := dk_42 (dk_at dksJ14_hashCode_0 23 rfl rfl)
theorem dJ14_hashCode_24 : decode cJ14_hashCode 24 = .ok (.getfield 9, 3) := dk_180 0 9 (dk_at dksJ14_hashCode_1 0 rfl rfl)
theorem dJ14_hashCode_27 : decode cJ14_hashCode 27 = .ok (.invokestatic 628, 3) := dk_184 2 116 (dk_at dksJ14_hashCode_1 3 rfl rfl)
theorem dJ14_hashCode_30 : decode cJ14_hashCode 30 = .ok (.goto 10, 3) := dk_167 0 10 (dk_at dksJ14_hashCode_1 6 rfl rfl)
theorem dJ14_hashCode_33 : decode cJ14_hashCode 33 = .ok (.aload_n 0, 1) := dk_42 (dk_at dksJ14_hashCode_1 9 rfl rfl)
theorem dJ14_hashCode_34 : decode cJ14_hashCode 34 = .ok (.getfield 9, 3) := dk_180 0 9 (dk_at dksJ14_hashCode_1 10 rfl rfl)
theorem dJ14_hashCode_37 : decode cJ14_hashCode 37 = .ok (.invokestatic 632, 3) := dk_184 2 120 (dk_at dksJ14_hashCode_1 13 rfl rfl)
theorem dJ14_hashCode_40 : decode cJ14_hashCode 40 = .ok (.istore_n 1, 1) := dk_60 (dk_at dksJ14_hashCode_1 16 rfl rfl)
theorem dJ14_hashCode_41 : decode cJ14_hashCode 41 = .ok (.iload_n 1, 1) := dk_27 (dk_at dksJ14_hashCode_1 17 rfl rfl)
theorem dJ14_hashCode_42 : decode cJ14_hashCode 42 = .ok (.ifCond .ne 11, 3) := dk_154 0 11 (dk_at dksJ14_hashCode_1 18 rfl rfl)
theorem dJ14_hashCode_45 : decode cJ14_hashCode 45 = .ok (.aload_n 0, 1) := dk_42 (dk_at dksJ14_hashCode_1 21 rfl rfl)
theorem dJ14_hashCode_46 : decode cJ14_hashCode 46 = .ok (.iconst 1, 1) := dk_4 (dk_at dksJ14_hashCode_1 22 rfl rfl)
theorem dJ14_hashCode_47 : decode cJ14_hashCode 47 = .ok (.putfield 23, 3) := dk_181 0 23 (dk_at dksJ14_hashCode_2 0 rfl rfl)
theorem dJ14_hashCode_50 : decode cJ14_hashCode 50 = .ok (.goto 8, 3) := dk_167 0 8 (dk_at dksJ14_hashCode_2 3 rfl rfl)
theorem dJ14_hashCode_53 : decode cJ14_hashCode 53 = .ok (.aload_n 0, 1) := dk_42 (dk_at dksJ14_hashCode_2 6 rfl rfl)
theorem dJ14_hashCode_54 : decode cJ14_hashCode 54 = .ok (.iload_n 1, 1) := dk_27 (dk_at dksJ14_hashCode_2 7 rfl rfl)
theorem dJ14_hashCode_55 : decode cJ14_hashCode 55 = .ok (.putfield 19, 3) := dk_181 0 19 (dk_at dksJ14_hashCode_2 8 rfl rfl)
theorem dJ14_hashCode_58 : decode cJ14_hashCode 58 = .ok (.iload_n 1, 1) := dk_27 (dk_at dksJ14_hashCode_2 11 rfl rfl)
theorem dJ14_hashCode_59 : decode cJ14_hashCode 59 = .ok (.ireturn, 1) := dk_172 (dk_at dksJ14_hashCode_2 12 rfl rfl)
abbrev cJ14_isLatin1 : ByteArray := prog_35_method_154_code
def yJ14_isLatin1 : MethodName := ⟨RJ14, "isLatin1", "()Z"⟩
def dkwJ14_isLatin1_0 : List UInt8 := [178, 0, 38, 153, 0, 14, 42, 180, 0, 15, 154, 0, 7, 4, 167, 0, 4, 3, 172]
abbrev dktJ14_isLatin1_0 : List UInt8 := dkwJ14_isLatin1_0 ++ []
theorem dksJ14_isLatin1_0 : cJ14_isLatin1.data.toList.drop 0 = dktJ14_isLatin1_0 := by decide +kernel
theorem dJ14_isLatin1_0 : decode cJ14_isLatin1 0 = .ok (.getstatic 38, 3) := dk_178 0 38 (dk_at dksJ14_isLatin1_0 0 rfl rfl)
theorem dJ14_isLatin1_3 : decode cJ14_isLatin1 3 = .ok (.ifCond .eq 14, 3) := dk_153 0 14 (dk_at dksJ14_isLatin1_0 3 rfl rfl)
theorem dJ14_isLatin1_6 : decode cJ14_isLatin1 6 = .ok (.aload_n 0, 1) := dk_42 (dk_at dksJ14_isLatin1_0 6 rfl rfl)
theorem dJ14_isLatin1_7 : decode cJ14_isLatin1 7 = .ok (.getfield 15, 3) := dk_180 0 15 (dk_at dksJ14_isLatin1_0 7 rfl rfl)
theorem dJ14_isLatin1_10 : decode cJ14_isLatin1 10 = .ok (.ifCond .ne 7, 3) := dk_154 0 7 (dk_at dksJ14_isLatin1_0 10 rfl rfl)
theorem dJ14_isLatin1_13 : decode cJ14_isLatin1 13 = .ok (.iconst 1, 1) := dk_4 (dk_at dksJ14_isLatin1_0 13 rfl rfl)
theorem dJ14_isLatin1_14 : decode cJ14_isLatin1 14 = .ok (.goto 4, 3) := dk_167 0 4 (dk_at dksJ14_isLatin1_0 14 rfl rfl)
theorem dJ14_isLatin1_17 : decode cJ14_isLatin1 17 = .ok (.iconst 0, 1) := dk_3 (dk_at dksJ14_isLatin1_0 17 rfl rfl)
theorem dJ14_isLatin1_18 : decode cJ14_isLatin1 18 = .ok (.ireturn, 1) := dk_172 (dk_at dksJ14_isLatin1_0 18 rfl rfl)
abbrev cJ14_checkIndex : ByteArray := prog_35_method_155_code
def yJ14_checkIndex : MethodName := ⟨RJ14, "checkIndex", "(II)V"⟩
def dkwJ14_checkIndex_0 : List UInt8 := [26, 27, 178, 4, 29, 184, 4, 35, 87, 177]
abbrev dktJ14_checkIndex_0 : List UInt8 := dkwJ14_checkIndex_0 ++ []
theorem dksJ14_checkIndex_0 : cJ14_checkIndex.data.toList.drop 0 = dktJ14_checkIndex_0 := by decide +kernel
theorem dJ14_checkIndex_0 : decode cJ14_checkIndex 0 = .ok (.iload_n 0, 1) := dk_26 (dk_at dksJ14_checkIndex_0 0 rfl rfl)
theorem dJ14_checkIndex_1 : decode cJ14_checkIndex 1 = .ok (.iload_n 1, 1) := dk_27 (dk_at dksJ14_checkIndex_0 1 rfl rfl)
theorem dJ14_checkIndex_2 : decode cJ14_checkIndex 2 = .ok (.getstatic 1053, 3) := dk_178 4 29 (dk_at dksJ14_checkIndex_0 2 rfl rfl)
theorem dJ14_checkIndex_5 : decode cJ14_checkIndex 5 = .ok (.invokestatic 1059, 3) := dk_184 4 35 (dk_at dksJ14_checkIndex_0 5 rfl rfl)
theorem dJ14_checkIndex_8 : decode cJ14_checkIndex 8 = .ok (.pop, 1) := dk_87 (dk_at dksJ14_checkIndex_0 8 rfl rfl)
theorem dJ14_checkIndex_9 : decode cJ14_checkIndex 9 = .ok (.return_, 1) := dk_177 (dk_at dksJ14_checkIndex_0 9 rfl rfl)
abbrev cJ14_charAt : ByteArray := prog_35_method_56_code
def yJ14_charAt : MethodName := ⟨RJ14, "charAt", "(I)C"⟩
def dkwJ14_charAt_1 : List UInt8 := [172]
abbrev dktJ14_charAt_1 : List UInt8 := dkwJ14_charAt_1 ++ []
def dkwJ14_charAt_0 : List UInt8 := [42, 182, 1, 236, 153, 0, 12, 42, 180, 0, 9, 27, 184, 1, 239, 172, 42, 180, 0, 9, 27, 184, 1, 242]
abbrev dktJ14_charAt_0 : List UInt8 := dkwJ14_charAt_0 ++ dktJ14_charAt_1
theorem dksJ14_charAt_0 : cJ14_charAt.data.toList.drop 0 = dktJ14_charAt_0 := by decide +kernel
theorem dksJ14_charAt_1 : cJ14_charAt.data.toList.drop 24 = dktJ14_charAt_1 := dk_seg dksJ14_charAt_0 24 rfl rfl
theorem dJ14_charAt_0 : decode cJ14_charAt 0 = .ok (.aload_n 0, 1) := dk_42 (dk_at dksJ14_charAt_0 0 rfl rfl)
theorem dJ14_charAt_1 : decode cJ14_charAt 1 = .ok (.invokevirtual 492, 3) := dk_182 1 236 (dk_at dksJ14_charAt_0 1 rfl rfl)
theorem dJ14_charAt_4 : decode cJ14_charAt 4 = .ok (.ifCond .eq 12, 3) := dk_153 0 12 (dk_at dksJ14_charAt_0 4 rfl rfl)
theorem dJ14_charAt_7 : decode cJ14_charAt 7 = .ok (.aload_n 0, 1) := dk_42 (dk_at dksJ14_charAt_0 7 rfl rfl)
theorem dJ14_charAt_8 : decode cJ14_charAt 8 = .ok (.getfield 9, 3) := dk_180 0 9 (dk_at dksJ14_charAt_0 8 rfl rfl)
theorem dJ14_charAt_11 : decode cJ14_charAt 11 = .ok (.iload_n 1, 1) := dk_27 (dk_at dksJ14_charAt_0 11 rfl rfl)
theorem dJ14_charAt_12 : decode cJ14_charAt 12 = .ok (.invokestatic 495, 3) := dk_184 1 239 (dk_at dksJ14_charAt_0 12 rfl rfl)
theorem dJ14_charAt_15 : decode cJ14_charAt 15 = .ok (.ireturn, 1) := dk_172 (dk_at dksJ14_charAt_0 15 rfl rfl)
theorem dJ14_charAt_16 : decode cJ14_charAt 16 = .ok (.aload_n 0, 1) := dk_42 (dk_at dksJ14_charAt_0 16 rfl rfl)
theorem dJ14_charAt_17 : decode cJ14_charAt 17 = .ok (.getfield 9, 3) := dk_180 0 9 (dk_at dksJ14_charAt_0 17 rfl rfl)
theorem dJ14_charAt_20 : decode cJ14_charAt 20 = .ok (.iload_n 1, 1) := dk_27 (dk_at dksJ14_charAt_0 20 rfl rfl)
theorem dJ14_charAt_21 : decode cJ14_charAt 21 = .ok (.invokestatic 498, 3) := dk_184 1 242 (dk_at dksJ14_charAt_0 21 rfl rfl)
theorem dJ14_charAt_24 : decode cJ14_charAt 24 = .ok (.ireturn, 1) := dk_172 (dk_at dksJ14_charAt_1 0 rfl rfl)
abbrev cJ14_substring : ByteArray := prog_35_method_91_code
def yJ14_substring : MethodName := ⟨RJ14, "substring", "(I)Ljava/lang/String;"⟩
def dkwJ14_substring_0 : List UInt8 := [42, 27, 42, 182, 1, 249, 182, 2, 169, 176]
abbrev dktJ14_substring_0 : List UInt8 := dkwJ14_substring_0 ++ []
theorem dksJ14_substring_0 : cJ14_substring.data.toList.drop 0 = dktJ14_substring_0 := by decide +kernel
theorem dJ14_substring_0 : decode cJ14_substring 0 = .ok (.aload_n 0, 1) := dk_42 (dk_at dksJ14_substring_0 0 rfl rfl)
theorem dJ14_substring_1 : decode cJ14_substring 1 = .ok (.iload_n 1, 1) := dk_27 (dk_at dksJ14_substring_0 1 rfl rfl)
theorem dJ14_substring_2 : decode cJ14_substring 2 = .ok (.aload_n 0, 1) := dk_42 (dk_at dksJ14_substring_0 2 rfl rfl)
theorem dJ14_substring_3 : decode cJ14_substring 3 = .ok (.invokevirtual 505, 3) := dk_182 1 249 (dk_at dksJ14_substring_0 3 rfl rfl)
theorem dJ14_substring_6 : decode cJ14_substring 6 = .ok (.invokevirtual 681, 3) := dk_182 2 169 (dk_at dksJ14_substring_0 6 rfl rfl)
theorem dJ14_substring_9 : decode cJ14_substring 9 = .ok (.areturn, 1) := dk_176 (dk_at dksJ14_substring_0 9 rfl rfl)
abbrev cJ14_substring_2 : ByteArray := prog_35_method_92_code
def yJ14_substring_2 : MethodName := ⟨RJ14, "substring", "(II)Ljava/lang/String;"⟩
def dkwJ14_substring_2_2 : List UInt8 := [180, 0, 9, 27, 21, 4, 184, 2, 177, 176]
abbrev dktJ14_substring_2_2 : List UInt8 := dkwJ14_substring_2_2 ++ []
def dkwJ14_substring_2_1 : List UInt8 := [100, 54, 4, 42, 182, 1, 236, 153, 0, 16, 42, 180, 0, 9, 27, 21, 4, 184, 2, 173, 167, 0, 13, 42]
abbrev dktJ14_substring_2_1 : List UInt8 := dkwJ14_substring_2_1 ++ dktJ14_substring_2_2
def dkwJ14_substring_2_0 : List UInt8 := [42, 182, 1, 249, 62, 27, 28, 29, 184, 2, 9, 27, 154, 0, 10, 28, 29, 160, 0, 5, 42, 176, 28, 27]
abbrev dktJ14_substring_2_0 : List UInt8 := dkwJ14_substring_2_0 ++ dktJ14_substring_2_1
theorem dksJ14_substring_2_0 : cJ14_substring_2.data.toList.drop 0 = dktJ14_substring_2_0 := by decide +kernel
theorem dksJ14_substring_2_1 : cJ14_substring_2.data.toList.drop 24 = dktJ14_substring_2_1 := dk_seg dksJ14_substring_2_0 24 rfl rfl
theorem dksJ14_substring_2_2 : cJ14_substring_2.data.toList.drop 48 = dktJ14_substring_2_2 := dk_seg dksJ14_substring_2_1 24 rfl rfl
theorem dJ14_substring_2_0 : decode cJ14_substring_2 0 = .ok (.aload_n 0, 1) := dk_42 (dk_at dksJ14_substring_2_0 0 rfl rfl)
theorem dJ14_substring_2_1 : decode cJ14_substring_2 1 = .ok (.invokevirtual 505, 3) := dk_182 1 249 (dk_at dksJ14_substring_2_0 1 rfl rfl)
theorem dJ14_substring_2_4 : decode cJ14_substring_2 4 = .ok (.istore_n 3, 1) := dk_62 (dk_at dksJ14_substring_2_0 4 rfl rfl)
theorem dJ14_substring_2_5 : decode cJ14_substring_2 5 = .ok (.iload_n 1, 1) := dk_27 (dk_at dksJ14_substring_2_0 5 rfl rfl)
theorem dJ14_substring_2_6 : decode cJ14_substring_2 6 = .ok (.iload_n 2, 1) := dk_28 (dk_at dksJ14_substring_2_0 6 rfl rfl)
theorem dJ14_substring_2_7 : decode cJ14_substring_2 7 = .ok (.iload_n 3, 1) := dk_29 (dk_at dksJ14_substring_2_0 7 rfl rfl)
theorem dJ14_substring_2_8 : decode cJ14_substring_2 8 = .ok (.invokestatic 521, 3) := dk_184 2 9 (dk_at dksJ14_substring_2_0 8 rfl rfl)
theorem dJ14_substring_2_11 : decode cJ14_substring_2 11 = .ok (.iload_n 1, 1) := dk_27 (dk_at dksJ14_substring_2_0 11 rfl rfl)
theorem dJ14_substring_2_12 : decode cJ14_substring_2 12 = .ok (.ifCond .ne 10, 3) := dk_154 0 10 (dk_at dksJ14_substring_2_0 12 rfl rfl)
theorem dJ14_substring_2_15 : decode cJ14_substring_2 15 = .ok (.iload_n 2, 1) := dk_28 (dk_at dksJ14_substring_2_0 15 rfl rfl)
theorem dJ14_substring_2_16 : decode cJ14_substring_2 16 = .ok (.iload_n 3, 1) := dk_29 (dk_at dksJ14_substring_2_0 16 rfl rfl)
theorem dJ14_substring_2_17 : decode cJ14_substring_2 17 = .ok (.if_icmp .ne 5, 3) := dk_160 0 5 (dk_at dksJ14_substring_2_0 17 rfl rfl)
theorem dJ14_substring_2_20 : decode cJ14_substring_2 20 = .ok (.aload_n 0, 1) := dk_42 (dk_at dksJ14_substring_2_0 20 rfl rfl)
theorem dJ14_substring_2_21 : decode cJ14_substring_2 21 = .ok (.areturn, 1) := dk_176 (dk_at dksJ14_substring_2_0 21 rfl rfl)
theorem dJ14_substring_2_22 : decode cJ14_substring_2 22 = .ok (.iload_n 2, 1) := dk_28 (dk_at dksJ14_substring_2_0 22 rfl rfl)
theorem dJ14_substring_2_23 : decode cJ14_substring_2 23 = .ok (.iload_n 1, 1) := dk_27 (dk_at dksJ14_substring_2_0 23 rfl rfl)
theorem dJ14_substring_2_24 : decode cJ14_substring_2 24 = .ok (.isub, 1) := dk_100 (dk_at dksJ14_substring_2_1 0 rfl rfl)
theorem dJ14_substring_2_25 : decode cJ14_substring_2 25 = .ok (.istore 4, 2) := dk_54 4 (dk_at dksJ14_substring_2_1 1 rfl rfl)
theorem dJ14_substring_2_27 : decode cJ14_substring_2 27 = .ok (.aload_n 0, 1) := dk_42 (dk_at dksJ14_substring_2_1 3 rfl rfl)
theorem dJ14_substring_2_28 : decode cJ14_substring_2 28 = .ok (.invokevirtual 492, 3) := dk_182 1 236 (dk_at dksJ14_substring_2_1 4 rfl rfl)
theorem dJ14_substring_2_31 : decode cJ14_substring_2 31 = .ok (.ifCond .eq 16, 3) := dk_153 0 16 (dk_at dksJ14_substring_2_1 7 rfl rfl)
theorem dJ14_substring_2_34 : decode cJ14_substring_2 34 = .ok (.aload_n 0, 1) := dk_42 (dk_at dksJ14_substring_2_1 10 rfl rfl)
theorem dJ14_substring_2_35 : decode cJ14_substring_2 35 = .ok (.getfield 9, 3) := dk_180 0 9 (dk_at dksJ14_substring_2_1 11 rfl rfl)
theorem dJ14_substring_2_38 : decode cJ14_substring_2 38 = .ok (.iload_n 1, 1) := dk_27 (dk_at dksJ14_substring_2_1 14 rfl rfl)
theorem dJ14_substring_2_39 : decode cJ14_substring_2 39 = .ok (.iload 4, 2) := dk_21 4 (dk_at dksJ14_substring_2_1 15 rfl rfl)
theorem dJ14_substring_2_41 : decode cJ14_substring_2 41 = .ok (.invokestatic 685, 3) := dk_184 2 173 (dk_at dksJ14_substring_2_1 17 rfl rfl)
theorem dJ14_substring_2_44 : decode cJ14_substring_2 44 = .ok (.goto 13, 3) := dk_167 0 13 (dk_at dksJ14_substring_2_1 20 rfl rfl)
theorem dJ14_substring_2_47 : decode cJ14_substring_2 47 = .ok (.aload_n 0, 1) := dk_42 (dk_at dksJ14_substring_2_1 23 rfl rfl)
theorem dJ14_substring_2_48 : decode cJ14_substring_2 48 = .ok (.getfield 9, 3) := dk_180 0 9 (dk_at dksJ14_substring_2_2 0 rfl rfl)
theorem dJ14_substring_2_51 : decode cJ14_substring_2 51 = .ok (.iload_n 1, 1) := dk_27 (dk_at dksJ14_substring_2_2 3 rfl rfl)
theorem dJ14_substring_2_52 : decode cJ14_substring_2 52 = .ok (.iload 4, 2) := dk_21 4 (dk_at dksJ14_substring_2_2 4 rfl rfl)
theorem dJ14_substring_2_54 : decode cJ14_substring_2 54 = .ok (.invokestatic 689, 3) := dk_184 2 177 (dk_at dksJ14_substring_2_2 6 rfl rfl)
theorem dJ14_substring_2_57 : decode cJ14_substring_2 57 = .ok (.areturn, 1) := dk_176 (dk_at dksJ14_substring_2_2 9 rfl rfl)
abbrev cJ14_init_3 : ByteArray := prog_35_method_151_code
def yJ14_init_3 : MethodName := ⟨RJ14, "<init>", "([BB)V"⟩
def dkwJ14_init_3_0 : List UInt8 := [42, 183, 0, 1, 42, 43, 181, 0, 9, 42, 28, 181, 0, 15, 177]
abbrev dktJ14_init_3_0 : List UInt8 := dkwJ14_init_3_0 ++ []
theorem dksJ14_init_3_0 : cJ14_init_3.data.toList.drop 0 = dktJ14_init_3_0 := by decide +kernel
theorem dJ14_init_3_0 : decode cJ14_init_3 0 = .ok (.aload_n 0, 1) := dk_42 (dk_at dksJ14_init_3_0 0 rfl rfl)
theorem dJ14_init_3_1 : decode cJ14_init_3 1 = .ok (.invokespecial 1, 3) := dk_183 0 1 (dk_at dksJ14_init_3_0 1 rfl rfl)
theorem dJ14_init_3_4 : decode cJ14_init_3 4 = .ok (.aload_n 0, 1) := dk_42 (dk_at dksJ14_init_3_0 4 rfl rfl)
theorem dJ14_init_3_5 : decode cJ14_init_3 5 = .ok (.aload_n 1, 1) := dk_43 (dk_at dksJ14_init_3_0 5 rfl rfl)
theorem dJ14_init_3_6 : decode cJ14_init_3 6 = .ok (.putfield 9, 3) := dk_181 0 9 (dk_at dksJ14_init_3_0 6 rfl rfl)
theorem dJ14_init_3_9 : decode cJ14_init_3 9 = .ok (.aload_n 0, 1) := dk_42 (dk_at dksJ14_init_3_0 9 rfl rfl)
theorem dJ14_init_3_10 : decode cJ14_init_3 10 = .ok (.iload_n 2, 1) := dk_28 (dk_at dksJ14_init_3_0 10 rfl rfl)
theorem dJ14_init_3_11 : decode cJ14_init_3 11 = .ok (.putfield 15, 3) := dk_181 0 15 (dk_at dksJ14_init_3_0 11 rfl rfl)
theorem dJ14_init_3_14 : decode cJ14_init_3 14 = .ok (.return_, 1) := dk_177 (dk_at dksJ14_init_3_0 14 rfl rfl)
abbrev cJ15_newBytesFor : ByteArray := prog_39_method_2_code
def yJ15_newBytesFor : MethodName := ⟨RJ15, "newBytesFor", "(I)[B"⟩
def dkwJ15_newBytesFor_0 : List UInt8 := [26, 184, 0, 11, 188, 8, 176]
abbrev dktJ15_newBytesFor_0 : List UInt8 := dkwJ15_newBytesFor_0 ++ []
theorem dksJ15_newBytesFor_0 : cJ15_newBytesFor.data.toList.drop 0 = dktJ15_newBytesFor_0 := by decide +kernel
theorem dJ15_newBytesFor_0 : decode cJ15_newBytesFor 0 = .ok (.iload_n 0, 1) := dk_26 (dk_at dksJ15_newBytesFor_0 0 rfl rfl)
theorem dJ15_newBytesFor_1 : decode cJ15_newBytesFor 1 = .ok (.invokestatic 11, 3) := dk_184 0 11 (dk_at dksJ15_newBytesFor_0 1 rfl rfl)
theorem dJ15_newBytesFor_4 : decode cJ15_newBytesFor 4 = .ok (.newarray .byte, 2) := dk_188_8 (dk_at dksJ15_newBytesFor_0 4 rfl rfl)
theorem dJ15_newBytesFor_6 : decode cJ15_newBytesFor 6 = .ok (.areturn, 1) := dk_176 (dk_at dksJ15_newBytesFor_0 6 rfl rfl)
abbrev cJ15_newBytesLength : ByteArray := prog_39_method_3_code
def yJ15_newBytesLength : MethodName := ⟨RJ15, "newBytesLength", "(I)I"⟩
def dkwJ15_newBytesLength_2 : List UInt8 := [182, 0, 32, 182, 0, 37, 183, 0, 41, 191, 26, 4, 120, 172]
abbrev dktJ15_newBytesLength_2 : List UInt8 := dkwJ15_newBytesLength_2 ++ []
def dkwJ15_newBytesLength_1 : List UInt8 := [187, 0, 23, 89, 183, 0, 25, 18, 26, 182, 0, 28, 26, 182, 0, 32, 18, 35, 182, 0, 28, 18, 20]
abbrev dktJ15_newBytesLength_1 : List UInt8 := dkwJ15_newBytesLength_1 ++ dktJ15_newBytesLength_2
def dkwJ15_newBytesLength_0 : List UInt8 := [26, 156, 0, 11, 187, 0, 17, 89, 183, 0, 19, 191, 26, 18, 20, 161, 0, 40, 187, 0, 21, 89]
abbrev dktJ15_newBytesLength_0 : List UInt8 := dkwJ15_newBytesLength_0 ++ dktJ15_newBytesLength_1
theorem dksJ15_newBytesLength_0 : cJ15_newBytesLength.data.toList.drop 0 = dktJ15_newBytesLength_0 := by decide +kernel
theorem dksJ15_newBytesLength_1 : cJ15_newBytesLength.data.toList.drop 22 = dktJ15_newBytesLength_1 := dk_seg dksJ15_newBytesLength_0 22 rfl rfl
theorem dksJ15_newBytesLength_2 : cJ15_newBytesLength.data.toList.drop 45 = dktJ15_newBytesLength_2 := dk_seg dksJ15_newBytesLength_1 23 rfl rfl
theorem dJ15_newBytesLength_0 : decode cJ15_newBytesLength 0 = .ok (.iload_n 0, 1) := dk_26 (dk_at dksJ15_newBytesLength_0 0 rfl rfl)
theorem dJ15_newBytesLength_1 : decode cJ15_newBytesLength 1 = .ok (.ifCond .ge 11, 3) := dk_156 0 11 (dk_at dksJ15_newBytesLength_0 1 rfl rfl)
theorem dJ15_newBytesLength_4 : decode cJ15_newBytesLength 4 = .ok (.new 17, 3) := dk_187 0 17 (dk_at dksJ15_newBytesLength_0 4 rfl rfl)
theorem dJ15_newBytesLength_7 : decode cJ15_newBytesLength 7 = .ok (.dup, 1) := dk_89 (dk_at dksJ15_newBytesLength_0 7 rfl rfl)
theorem dJ15_newBytesLength_8 : decode cJ15_newBytesLength 8 = .ok (.invokespecial 19, 3) := dk_183 0 19 (dk_at dksJ15_newBytesLength_0 8 rfl rfl)
theorem dJ15_newBytesLength_11 : decode cJ15_newBytesLength 11 = .ok (.athrow, 1) := dk_191 (dk_at dksJ15_newBytesLength_0 11 rfl rfl)
theorem dJ15_newBytesLength_12 : decode cJ15_newBytesLength 12 = .ok (.iload_n 0, 1) := dk_26 (dk_at dksJ15_newBytesLength_0 12 rfl rfl)
theorem dJ15_newBytesLength_13 : decode cJ15_newBytesLength 13 = .ok (.ldc 20, 2) := dk_18 20 (dk_at dksJ15_newBytesLength_0 13 rfl rfl)
theorem dJ15_newBytesLength_15 : decode cJ15_newBytesLength 15 = .ok (.if_icmp .lt 40, 3) := dk_161 0 40 (dk_at dksJ15_newBytesLength_0 15 rfl rfl)
theorem dJ15_newBytesLength_18 : decode cJ15_newBytesLength 18 = .ok (.new 21, 3) := dk_187 0 21 (dk_at dksJ15_newBytesLength_0 18 rfl rfl)
theorem dJ15_newBytesLength_21 : decode cJ15_newBytesLength 21 = .ok (.dup, 1) := dk_89 (dk_at dksJ15_newBytesLength_0 21 rfl rfl)
theorem dJ15_newBytesLength_22 : decode cJ15_newBytesLength 22 = .ok (.new 23, 3) := dk_187 0 23 (dk_at dksJ15_newBytesLength_1 0 rfl rfl)
theorem dJ15_newBytesLength_25 : decode cJ15_newBytesLength 25 = .ok (.dup, 1) := dk_89 (dk_at dksJ15_newBytesLength_1 3 rfl rfl)
theorem dJ15_newBytesLength_26 : decode cJ15_newBytesLength 26 = .ok (.invokespecial 25, 3) := dk_183 0 25 (dk_at dksJ15_newBytesLength_1 4 rfl rfl)
theorem dJ15_newBytesLength_29 : decode cJ15_newBytesLength 29 = .ok (.ldc 26, 2) := dk_18 26 (dk_at dksJ15_newBytesLength_1 7 rfl rfl)
theorem dJ15_newBytesLength_31 : decode cJ15_newBytesLength 31 = .ok (.invokevirtual 28, 3) := dk_182 0 28 (dk_at dksJ15_newBytesLength_1 9 rfl rfl)
theorem dJ15_newBytesLength_34 : decode cJ15_newBytesLength 34 = .ok (.iload_n 0, 1) := dk_26 (dk_at dksJ15_newBytesLength_1 12 rfl rfl)
theorem dJ15_newBytesLength_35 : decode cJ15_newBytesLength 35 = .ok (.invokevirtual 32, 3) := dk_182 0 32 (dk_at dksJ15_newBytesLength_1 13 rfl rfl)
theorem dJ15_newBytesLength_38 : decode cJ15_newBytesLength 38 = .ok (.ldc 35, 2) := dk_18 35 (dk_at dksJ15_newBytesLength_1 16 rfl rfl)
theorem dJ15_newBytesLength_40 : decode cJ15_newBytesLength 40 = .ok (.invokevirtual 28, 3) := dk_182 0 28 (dk_at dksJ15_newBytesLength_1 18 rfl rfl)
theorem dJ15_newBytesLength_43 : decode cJ15_newBytesLength 43 = .ok (.ldc 20, 2) := dk_18 20 (dk_at dksJ15_newBytesLength_1 21 rfl rfl)
theorem dJ15_newBytesLength_45 : decode cJ15_newBytesLength 45 = .ok (.invokevirtual 32, 3) := dk_182 0 32 (dk_at dksJ15_newBytesLength_2 0 rfl rfl)
theorem dJ15_newBytesLength_48 : decode cJ15_newBytesLength 48 = .ok (.invokevirtual 37, 3) := dk_182 0 37 (dk_at dksJ15_newBytesLength_2 3 rfl rfl)
theorem dJ15_newBytesLength_51 : decode cJ15_newBytesLength 51 = .ok (.invokespecial 41, 3) := dk_183 0 41 (dk_at dksJ15_newBytesLength_2 6 rfl rfl)
theorem dJ15_newBytesLength_54 : decode cJ15_newBytesLength 54 = .ok (.athrow, 1) := dk_191 (dk_at dksJ15_newBytesLength_2 9 rfl rfl)
theorem dJ15_newBytesLength_55 : decode cJ15_newBytesLength 55 = .ok (.iload_n 0, 1) := dk_26 (dk_at dksJ15_newBytesLength_2 10 rfl rfl)
theorem dJ15_newBytesLength_56 : decode cJ15_newBytesLength 56 = .ok (.iconst 1, 1) := dk_4 (dk_at dksJ15_newBytesLength_2 11 rfl rfl)
theorem dJ15_newBytesLength_57 : decode cJ15_newBytesLength 57 = .ok (.ishl, 1) := dk_120 (dk_at dksJ15_newBytesLength_2 12 rfl rfl)
theorem dJ15_newBytesLength_58 : decode cJ15_newBytesLength 58 = .ok (.ireturn, 1) := dk_172 (dk_at dksJ15_newBytesLength_2 13 rfl rfl)
abbrev cJ15_putCharsAt : ByteArray := prog_39_method_81_code
def yJ15_putCharsAt : MethodName := ⟨RJ15, "putCharsAt", "([BICCCC)I"⟩
def dkwJ15_putCharsAt_3 : List UInt8 := [21, 6, 172]
abbrev dktJ15_putCharsAt_3 : List UInt8 := dkwJ15_putCharsAt_3 ++ []
def dkwJ15_putCharsAt_2 : List UInt8 := [184, 0, 111, 178, 0, 44, 154, 0, 17, 27, 21, 6, 159, 0, 11, 187, 0, 52, 89, 183, 0, 66, 191]
abbrev dktJ15_putCharsAt_2 : List UInt8 := dkwJ15_putCharsAt_2 ++ dktJ15_putCharsAt_3
def dkwJ15_putCharsAt_1 : List UInt8 := [132, 1, 1, 29, 184, 0, 111, 42, 27, 132, 1, 1, 21, 4, 184, 0, 111, 42, 27, 132, 1, 1, 21, 5]
abbrev dktJ15_putCharsAt_1 : List UInt8 := dkwJ15_putCharsAt_1 ++ dktJ15_putCharsAt_2
def dkwJ15_putCharsAt_0 : List UInt8 := [27, 7, 96, 54, 6, 27, 21, 6, 42, 184, 0, 96, 42, 27, 132, 1, 1, 28, 184, 0, 111, 42, 27]
abbrev dktJ15_putCharsAt_0 : List UInt8 := dkwJ15_putCharsAt_0 ++ dktJ15_putCharsAt_1
theorem dksJ15_putCharsAt_0 : cJ15_putCharsAt.data.toList.drop 0 = dktJ15_putCharsAt_0 := by decide +kernel
theorem dksJ15_putCharsAt_1 : cJ15_putCharsAt.data.toList.drop 23 = dktJ15_putCharsAt_1 := dk_seg dksJ15_putCharsAt_0 23 rfl rfl
theorem dksJ15_putCharsAt_2 : cJ15_putCharsAt.data.toList.drop 47 = dktJ15_putCharsAt_2 := dk_seg dksJ15_putCharsAt_1 24 rfl rfl
theorem dksJ15_putCharsAt_3 : cJ15_putCharsAt.data.toList.drop 70 = dktJ15_putCharsAt_3 := dk_seg dksJ15_putCharsAt_2 23 rfl rfl
theorem dJ15_putCharsAt_0 : decode cJ15_putCharsAt 0 = .ok (.iload_n 1, 1) := dk_27 (dk_at dksJ15_putCharsAt_0 0 rfl rfl)
theorem dJ15_putCharsAt_1 : decode cJ15_putCharsAt 1 = .ok (.iconst 4, 1) := dk_7 (dk_at dksJ15_putCharsAt_0 1 rfl rfl)
theorem dJ15_putCharsAt_2 : decode cJ15_putCharsAt 2 = .ok (.iadd, 1) := dk_96 (dk_at dksJ15_putCharsAt_0 2 rfl rfl)
theorem dJ15_putCharsAt_3 : decode cJ15_putCharsAt 3 = .ok (.istore 6, 2) := dk_54 6 (dk_at dksJ15_putCharsAt_0 3 rfl rfl)
theorem dJ15_putCharsAt_5 : decode cJ15_putCharsAt 5 = .ok (.iload_n 1, 1) := dk_27 (dk_at dksJ15_putCharsAt_0 5 rfl rfl)
theorem dJ15_putCharsAt_6 : decode cJ15_putCharsAt 6 = .ok (.iload 6, 2) := dk_21 6 (dk_at dksJ15_putCharsAt_0 6 rfl rfl)
theorem dJ15_putCharsAt_8 : decode cJ15_putCharsAt 8 = .ok (.aload_n 0, 1) := dk_42 (dk_at dksJ15_putCharsAt_0 8 rfl rfl)
theorem dJ15_putCharsAt_9 : decode cJ15_putCharsAt 9 = .ok (.invokestatic 96, 3) := dk_184 0 96 (dk_at dksJ15_putCharsAt_0 9 rfl rfl)
theorem dJ15_putCharsAt_12 : decode cJ15_putCharsAt 12 = .ok (.aload_n 0, 1) := dk_42 (dk_at dksJ15_putCharsAt_0 12 rfl rfl)
theorem dJ15_putCharsAt_13 : decode cJ15_putCharsAt 13 = .ok (.iload_n 1, 1) := dk_27 (dk_at dksJ15_putCharsAt_0 13 rfl rfl)
theorem dJ15_putCharsAt_14 : decode cJ15_putCharsAt 14 = .ok (.iinc 1 1, 3) := dk_132 1 1 (dk_at dksJ15_putCharsAt_0 14 rfl rfl)
theorem dJ15_putCharsAt_17 : decode cJ15_putCharsAt 17 = .ok (.iload_n 2, 1) := dk_28 (dk_at dksJ15_putCharsAt_0 17 rfl rfl)
theorem dJ15_putCharsAt_18 : decode cJ15_putCharsAt 18 = .ok (.invokestatic 111, 3) := dk_184 0 111 (dk_at dksJ15_putCharsAt_0 18 rfl rfl)
theorem dJ15_putCharsAt_21 : decode cJ15_putCharsAt 21 = .ok (.aload_n 0, 1) := dk_42 (dk_at dksJ15_putCharsAt_0 21 rfl rfl)
theorem dJ15_putCharsAt_22 : decode cJ15_putCharsAt 22 = .ok (.iload_n 1, 1) := dk_27 (dk_at dksJ15_putCharsAt_0 22 rfl rfl)
theorem dJ15_putCharsAt_23 : decode cJ15_putCharsAt 23 = .ok (.iinc 1 1, 3) := dk_132 1 1 (dk_at dksJ15_putCharsAt_1 0 rfl rfl)
theorem dJ15_putCharsAt_26 : decode cJ15_putCharsAt 26 = .ok (.iload_n 3, 1) := dk_29 (dk_at dksJ15_putCharsAt_1 3 rfl rfl)
theorem dJ15_putCharsAt_27 : decode cJ15_putCharsAt 27 = .ok (.invokestatic 111, 3) := dk_184 0 111 (dk_at dksJ15_putCharsAt_1 4 rfl rfl)
theorem dJ15_putCharsAt_30 : decode cJ15_putCharsAt 30 = .ok (.aload_n 0, 1) := dk_42 (dk_at dksJ15_putCharsAt_1 7 rfl rfl)
theorem dJ15_putCharsAt_31 : decode cJ15_putCharsAt 31 = .ok (.iload_n 1, 1) := dk_27 (dk_at dksJ15_putCharsAt_1 8 rfl rfl)
theorem dJ15_putCharsAt_32 : decode cJ15_putCharsAt 32 = .ok (.iinc 1 1, 3) := dk_132 1 1 (dk_at dksJ15_putCharsAt_1 9 rfl rfl)
theorem dJ15_putCharsAt_35 : decode cJ15_putCharsAt 35 = .ok (.iload 4, 2) := dk_21 4 (dk_at dksJ15_putCharsAt_1 12 rfl rfl)
theorem dJ15_putCharsAt_37 : decode cJ15_putCharsAt 37 = .ok (.invokestatic 111, 3) := dk_184 0 111 (dk_at dksJ15_putCharsAt_1 14 rfl rfl)
theorem dJ15_putCharsAt_40 : decode cJ15_putCharsAt 40 = .ok (.aload_n 0, 1) := dk_42 (dk_at dksJ15_putCharsAt_1 17 rfl rfl)
theorem dJ15_putCharsAt_41 : decode cJ15_putCharsAt 41 = .ok (.iload_n 1, 1) := dk_27 (dk_at dksJ15_putCharsAt_1 18 rfl rfl)
theorem dJ15_putCharsAt_42 : decode cJ15_putCharsAt 42 = .ok (.iinc 1 1, 3) := dk_132 1 1 (dk_at dksJ15_putCharsAt_1 19 rfl rfl)
theorem dJ15_putCharsAt_45 : decode cJ15_putCharsAt 45 = .ok (.iload 5, 2) := dk_21 5 (dk_at dksJ15_putCharsAt_1 22 rfl rfl)
theorem dJ15_putCharsAt_47 : decode cJ15_putCharsAt 47 = .ok (.invokestatic 111, 3) := dk_184 0 111 (dk_at dksJ15_putCharsAt_2 0 rfl rfl)
theorem dJ15_putCharsAt_50 : decode cJ15_putCharsAt 50 = .ok (.getstatic 44, 3) := dk_178 0 44 (dk_at dksJ15_putCharsAt_2 3 rfl rfl)
theorem dJ15_putCharsAt_53 : decode cJ15_putCharsAt 53 = .ok (.ifCond .ne 17, 3) := dk_154 0 17 (dk_at dksJ15_putCharsAt_2 6 rfl rfl)
theorem dJ15_putCharsAt_56 : decode cJ15_putCharsAt 56 = .ok (.iload_n 1, 1) := dk_27 (dk_at dksJ15_putCharsAt_2 9 rfl rfl)
theorem dJ15_putCharsAt_57 : decode cJ15_putCharsAt 57 = .ok (.iload 6, 2) := dk_21 6 (dk_at dksJ15_putCharsAt_2 10 rfl rfl)
theorem dJ15_putCharsAt_59 : decode cJ15_putCharsAt 59 = .ok (.if_icmp .eq 11, 3) := dk_159 0 11 (dk_at dksJ15_putCharsAt_2 12 rfl rfl)
theorem dJ15_putCharsAt_62 : decode cJ15_putCharsAt 62 = .ok (.new 52, 3) := dk_187 0 52 (dk_at dksJ15_putCharsAt_2 15 rfl rfl)
theorem dJ15_putCharsAt_65 : decode cJ15_putCharsAt 65 = .ok (.dup, 1) := dk_89 (dk_at dksJ15_putCharsAt_2 18 rfl rfl)
theorem dJ15_putCharsAt_66 : decode cJ15_putCharsAt 66 = .ok (.invokespecial 66, 3) := dk_183 0 66 (dk_at dksJ15_putCharsAt_2 19 rfl rfl)
theorem dJ15_putCharsAt_69 : decode cJ15_putCharsAt 69 = .ok (.athrow, 1) := dk_191 (dk_at dksJ15_putCharsAt_2 22 rfl rfl)
theorem dJ15_putCharsAt_70 : decode cJ15_putCharsAt 70 = .ok (.iload 6, 2) := dk_21 6 (dk_at dksJ15_putCharsAt_3 0 rfl rfl)
theorem dJ15_putCharsAt_72 : decode cJ15_putCharsAt 72 = .ok (.ireturn, 1) := dk_172 (dk_at dksJ15_putCharsAt_3 2 rfl rfl)
abbrev cJ15_checkBoundsBeginEnd : ByteArray := prog_39_method_93_code
def yJ15_checkBoundsBeginEnd : MethodName := ⟨RJ15, "checkBoundsBeginEnd", "(II[B)V"⟩
def dkwJ15_checkBoundsBeginEnd_0 : List UInt8 := [26, 27, 44, 184, 0, 48, 184, 0, 241, 177]
abbrev dktJ15_checkBoundsBeginEnd_0 : List UInt8 := dkwJ15_checkBoundsBeginEnd_0 ++ []
theorem dksJ15_checkBoundsBeginEnd_0 : cJ15_checkBoundsBeginEnd.data.toList.drop 0 = dktJ15_checkBoundsBeginEnd_0 := by decide +kernel
theorem dJ15_checkBoundsBeginEnd_0 : decode cJ15_checkBoundsBeginEnd 0 = .ok (.iload_n 0, 1) := dk_26 (dk_at dksJ15_checkBoundsBeginEnd_0 0 rfl rfl)
theorem dJ15_checkBoundsBeginEnd_1 : decode cJ15_checkBoundsBeginEnd 1 = .ok (.iload_n 1, 1) := dk_27 (dk_at dksJ15_checkBoundsBeginEnd_0 1 rfl rfl)
theorem dJ15_checkBoundsBeginEnd_2 : decode cJ15_checkBoundsBeginEnd 2 = .ok (.aload_n 2, 1) := dk_44 (dk_at dksJ15_checkBoundsBeginEnd_0 2 rfl rfl)
theorem dJ15_checkBoundsBeginEnd_3 : decode cJ15_checkBoundsBeginEnd 3 = .ok (.invokestatic 48, 3) := dk_184 0 48 (dk_at dksJ15_checkBoundsBeginEnd_0 3 rfl rfl)
theorem dJ15_checkBoundsBeginEnd_6 : decode cJ15_checkBoundsBeginEnd 6 = .ok (.invokestatic 241, 3) := dk_184 0 241 (dk_at dksJ15_checkBoundsBeginEnd_0 6 rfl rfl)
theorem dJ15_checkBoundsBeginEnd_9 : decode cJ15_checkBoundsBeginEnd 9 = .ok (.return_, 1) := dk_177 (dk_at dksJ15_checkBoundsBeginEnd_0 9 rfl rfl)
abbrev cJ15_length : ByteArray := prog_39_method_6_code
def yJ15_length : MethodName := ⟨RJ15, "length", "([B)I"⟩
def dkwJ15_length_0 : List UInt8 := [42, 190, 4, 122, 172]
abbrev dktJ15_length_0 : List UInt8 := dkwJ15_length_0 ++ []
theorem dksJ15_length_0 : cJ15_length.data.toList.drop 0 = dktJ15_length_0 := by decide +kernel
theorem dJ15_length_0 : decode cJ15_length 0 = .ok (.aload_n 0, 1) := dk_42 (dk_at dksJ15_length_0 0 rfl rfl)
theorem dJ15_length_1 : decode cJ15_length 1 = .ok (.arraylength, 1) := dk_190 (dk_at dksJ15_length_0 1 rfl rfl)
theorem dJ15_length_2 : decode cJ15_length 2 = .ok (.iconst 1, 1) := dk_4 (dk_at dksJ15_length_0 2 rfl rfl)
theorem dJ15_length_3 : decode cJ15_length 3 = .ok (.ishr, 1) := dk_122 (dk_at dksJ15_length_0 3 rfl rfl)
theorem dJ15_length_4 : decode cJ15_length 4 = .ok (.ireturn, 1) := dk_172 (dk_at dksJ15_length_0 4 rfl rfl)
abbrev cJ15_putChar : ByteArray := prog_39_method_4_code
def yJ15_putChar : MethodName := ⟨RJ15, "putChar", "([BII)V"⟩
def dkwJ15_putChar_2 : List UInt8 := [178, 0, 63, 122, 145, 84, 177]
abbrev dktJ15_putChar_2 : List UInt8 := dkwJ15_putChar_2 ++ []
def dkwJ15_putChar_1 : List UInt8 := [183, 0, 56, 191, 27, 4, 120, 60, 42, 27, 132, 1, 1, 28, 178, 0, 59, 122, 145, 84, 42, 27, 28]
abbrev dktJ15_putChar_1 : List UInt8 := dkwJ15_putChar_1 ++ dktJ15_putChar_2
def dkwJ15_putChar_0 : List UInt8 := [178, 0, 44, 154, 0, 25, 27, 155, 0, 11, 27, 42, 184, 0, 48, 161, 0, 13, 187, 0, 52, 89, 18, 54]
abbrev dktJ15_putChar_0 : List UInt8 := dkwJ15_putChar_0 ++ dktJ15_putChar_1
theorem dksJ15_putChar_0 : cJ15_putChar.data.toList.drop 0 = dktJ15_putChar_0 := by decide +kernel
theorem dksJ15_putChar_1 : cJ15_putChar.data.toList.drop 24 = dktJ15_putChar_1 := dk_seg dksJ15_putChar_0 24 rfl rfl
theorem dksJ15_putChar_2 : cJ15_putChar.data.toList.drop 47 = dktJ15_putChar_2 := dk_seg dksJ15_putChar_1 23 rfl rfl
theorem dJ15_putChar_0 : decode cJ15_putChar 0 = .ok (.getstatic 44, 3) := dk_178 0 44 (dk_at dksJ15_putChar_0 0 rfl rfl)
theorem dJ15_putChar_3 : decode cJ15_putChar 3 = .ok (.ifCond .ne 25, 3) := dk_154 0 25 (dk_at dksJ15_putChar_0 3 rfl rfl)
theorem dJ15_putChar_6 : decode cJ15_putChar 6 = .ok (.iload_n 1, 1) := dk_27 (dk_at dksJ15_putChar_0 6 rfl rfl)
theorem dJ15_putChar_7 : decode cJ15_putChar 7 = .ok (.ifCond .lt 11, 3) := dk_155 0 11 (dk_at dksJ15_putChar_0 7 rfl rfl)
theorem dJ15_putChar_10 : decode cJ15_putChar 10 = .ok (.iload_n 1, 1) := dk_27 (dk_at dksJ15_putChar_0 10 rfl rfl)
theorem dJ15_putChar_11 : decode cJ15_putChar 11 = .ok (.aload_n 0, 1) := dk_42 (dk_at dksJ15_putChar_0 11 rfl rfl)
theorem dJ15_putChar_12 : decode cJ15_putChar 12 = .ok (.invokestatic 48, 3) := dk_184 0 48 (dk_at dksJ15_putChar_0 12 rfl rfl)
theorem dJ15_putChar_15 : decode cJ15_putChar 15 = .ok (.if_icmp .lt 13, 3) := dk_161 0 13 (dk_at dksJ15_putChar_0 15 rfl rfl)
theorem dJ15_putChar_18 : decode cJ15_putChar 18 = .ok (.new 52, 3) := dk_187 0 52 (dk_at dksJ15_putChar_0 18 rfl rfl)
theorem dJ15_putChar_21 : decode cJ15_putChar 21 = .ok (.dup, 1) := dk_89 (dk_at dksJ15_putChar_0 21 rfl rfl)
theorem dJ15_putChar_22 : decode cJ15_putChar 22 = .ok (.ldc 54, 2) := dk_18 54 (dk_at dksJ15_putChar_0 22 rfl rfl)
theorem dJ15_putChar_24 : decode cJ15_putChar 24 = .ok (.invokespecial 56, 3) := dk_183 0 56 (dk_at dksJ15_putChar_1 0 rfl rfl)
theorem dJ15_putChar_27 : decode cJ15_putChar 27 = .ok (.athrow, 1) := dk_191 (dk_at dksJ15_putChar_1 3 rfl rfl)
theorem dJ15_putChar_28 : decode cJ15_putChar 28 = .ok (.iload_n 1, 1) := dk_27 (dk_at dksJ15_putChar_1 4 rfl rfl)
theorem dJ15_putChar_29 : decode cJ15_putChar 29 = .ok (.iconst 1, 1) := dk_4 (dk_at dksJ15_putChar_1 5 rfl rfl)
theorem dJ15_putChar_30 : decode cJ15_putChar 30 = .ok (.ishl, 1) := dk_120 (dk_at dksJ15_putChar_1 6 rfl rfl)
theorem dJ15_putChar_31 : decode cJ15_putChar 31 = .ok (.istore_n 1, 1) := dk_60 (dk_at dksJ15_putChar_1 7 rfl rfl)
theorem dJ15_putChar_32 : decode cJ15_putChar 32 = .ok (.aload_n 0, 1) := dk_42 (dk_at dksJ15_putChar_1 8 rfl rfl)
theorem dJ15_putChar_33 : decode cJ15_putChar 33 = .ok (.iload_n 1, 1) := dk_27 (dk_at dksJ15_putChar_1 9 rfl rfl)
theorem dJ15_putChar_34 : decode cJ15_putChar 34 = .ok (.iinc 1 1, 3) := dk_132 1 1 (dk_at dksJ15_putChar_1 10 rfl rfl)
theorem dJ15_putChar_37 : decode cJ15_putChar 37 = .ok (.iload_n 2, 1) := dk_28 (dk_at dksJ15_putChar_1 13 rfl rfl)
theorem dJ15_putChar_38 : decode cJ15_putChar 38 = .ok (.getstatic 59, 3) := dk_178 0 59 (dk_at dksJ15_putChar_1 14 rfl rfl)
theorem dJ15_putChar_41 : decode cJ15_putChar 41 = .ok (.ishr, 1) := dk_122 (dk_at dksJ15_putChar_1 17 rfl rfl)
theorem dJ15_putChar_42 : decode cJ15_putChar 42 = .ok (.i2b, 1) := dk_145 (dk_at dksJ15_putChar_1 18 rfl rfl)
theorem dJ15_putChar_43 : decode cJ15_putChar 43 = .ok (.bastore, 1) := dk_84 (dk_at dksJ15_putChar_1 19 rfl rfl)
theorem dJ15_putChar_44 : decode cJ15_putChar 44 = .ok (.aload_n 0, 1) := dk_42 (dk_at dksJ15_putChar_1 20 rfl rfl)
theorem dJ15_putChar_45 : decode cJ15_putChar 45 = .ok (.iload_n 1, 1) := dk_27 (dk_at dksJ15_putChar_1 21 rfl rfl)
theorem dJ15_putChar_46 : decode cJ15_putChar 46 = .ok (.iload_n 2, 1) := dk_28 (dk_at dksJ15_putChar_1 22 rfl rfl)
theorem dJ15_putChar_47 : decode cJ15_putChar 47 = .ok (.getstatic 63, 3) := dk_178 0 63 (dk_at dksJ15_putChar_2 0 rfl rfl)
theorem dJ15_putChar_50 : decode cJ15_putChar 50 = .ok (.ishr, 1) := dk_122 (dk_at dksJ15_putChar_2 3 rfl rfl)
theorem dJ15_putChar_51 : decode cJ15_putChar 51 = .ok (.i2b, 1) := dk_145 (dk_at dksJ15_putChar_2 4 rfl rfl)
theorem dJ15_putChar_52 : decode cJ15_putChar 52 = .ok (.bastore, 1) := dk_84 (dk_at dksJ15_putChar_2 5 rfl rfl)
theorem dJ15_putChar_53 : decode cJ15_putChar 53 = .ok (.return_, 1) := dk_177 (dk_at dksJ15_putChar_2 6 rfl rfl)
abbrev cJ15_inflate : ByteArray := prog_39_method_86_code
def yJ15_inflate : MethodName := ⟨RJ15, "inflate", "([BI[BII)V"⟩
def dkwJ15_inflate_1 : List UInt8 := [132, 1, 1, 51, 17, 0, 255, 126, 184, 0, 111, 132, 5, 1, 167, 255, 228, 177]
abbrev dktJ15_inflate_1 : List UInt8 := dkwJ15_inflate_1 ++ []
def dkwJ15_inflate_0 : List UInt8 := [29, 21, 4, 44, 184, 0, 173, 3, 54, 5, 21, 5, 21, 4, 162, 0, 27, 44, 29, 132, 3, 1, 42, 27]
abbrev dktJ15_inflate_0 : List UInt8 := dkwJ15_inflate_0 ++ dktJ15_inflate_1
theorem dksJ15_inflate_0 : cJ15_inflate.data.toList.drop 0 = dktJ15_inflate_0 := by decide +kernel
theorem dksJ15_inflate_1 : cJ15_inflate.data.toList.drop 24 = dktJ15_inflate_1 := dk_seg dksJ15_inflate_0 24 rfl rfl
theorem dJ15_inflate_0 : decode cJ15_inflate 0 = .ok (.iload_n 3, 1) := dk_29 (dk_at dksJ15_inflate_0 0 rfl rfl)
theorem dJ15_inflate_1 : decode cJ15_inflate 1 = .ok (.iload 4, 2) := dk_21 4 (dk_at dksJ15_inflate_0 1 rfl rfl)
theorem dJ15_inflate_3 : decode cJ15_inflate 3 = .ok (.aload_n 2, 1) := dk_44 (dk_at dksJ15_inflate_0 3 rfl rfl)
theorem dJ15_inflate_4 : decode cJ15_inflate 4 = .ok (.invokestatic 173, 3) := dk_184 0 173 (dk_at dksJ15_inflate_0 4 rfl rfl)
theorem dJ15_inflate_7 : decode cJ15_inflate 7 = .ok (.iconst 0, 1) := dk_3 (dk_at dksJ15_inflate_0 7 rfl rfl)
theorem dJ15_inflate_8 : decode cJ15_inflate 8 = .ok (.istore 5, 2) := dk_54 5 (dk_at dksJ15_inflate_0 8 rfl rfl)
theorem dJ15_inflate_10 : decode cJ15_inflate 10 = .ok (.iload 5, 2) := dk_21 5 (dk_at dksJ15_inflate_0 10 rfl rfl)
theorem dJ15_inflate_12 : decode cJ15_inflate 12 = .ok (.iload 4, 2) := dk_21 4 (dk_at dksJ15_inflate_0 12 rfl rfl)
theorem dJ15_inflate_14 : decode cJ15_inflate 14 = .ok (.if_icmp .ge 27, 3) := dk_162 0 27 (dk_at dksJ15_inflate_0 14 rfl rfl)
theorem dJ15_inflate_17 : decode cJ15_inflate 17 = .ok (.aload_n 2, 1) := dk_44 (dk_at dksJ15_inflate_0 17 rfl rfl)
theorem dJ15_inflate_18 : decode cJ15_inflate 18 = .ok (.iload_n 3, 1) := dk_29 (dk_at dksJ15_inflate_0 18 rfl rfl)
theorem dJ15_inflate_19 : decode cJ15_inflate 19 = .ok (.iinc 3 1, 3) := dk_132 3 1 (dk_at dksJ15_inflate_0 19 rfl rfl)
theorem dJ15_inflate_22 : decode cJ15_inflate 22 = .ok (.aload_n 0, 1) := dk_42 (dk_at dksJ15_inflate_0 22 rfl rfl)
theorem dJ15_inflate_23 : decode cJ15_inflate 23 = .ok (.iload_n 1, 1) := dk_27 (dk_at dksJ15_inflate_0 23 rfl rfl)
theorem dJ15_inflate_24 : decode cJ15_inflate 24 = .ok (.iinc 1 1, 3) := dk_132 1 1 (dk_at dksJ15_inflate_1 0 rfl rfl)
theorem dJ15_inflate_27 : decode cJ15_inflate 27 = .ok (.baload, 1) := dk_51 (dk_at dksJ15_inflate_1 3 rfl rfl)
theorem dJ15_inflate_28 : decode cJ15_inflate 28 = .ok (.sipush 255, 3) := dk_17 0 255 (dk_at dksJ15_inflate_1 4 rfl rfl)
theorem dJ15_inflate_31 : decode cJ15_inflate 31 = .ok (.iand, 1) := dk_126 (dk_at dksJ15_inflate_1 7 rfl rfl)
theorem dJ15_inflate_32 : decode cJ15_inflate 32 = .ok (.invokestatic 111, 3) := dk_184 0 111 (dk_at dksJ15_inflate_1 8 rfl rfl)
theorem dJ15_inflate_35 : decode cJ15_inflate 35 = .ok (.iinc 5 1, 3) := dk_132 5 1 (dk_at dksJ15_inflate_1 11 rfl rfl)
theorem dJ15_inflate_38 : decode cJ15_inflate 38 = .ok (.goto (-28), 3) := dk_167 255 228 (dk_at dksJ15_inflate_1 14 rfl rfl)
theorem dJ15_inflate_41 : decode cJ15_inflate 41 = .ok (.return_, 1) := dk_177 (dk_at dksJ15_inflate_1 17 rfl rfl)
abbrev cJ15_checkBoundsOffCount : ByteArray := prog_39_method_94_code
def yJ15_checkBoundsOffCount : MethodName := ⟨RJ15, "checkBoundsOffCount", "(II[B)V"⟩
def dkwJ15_checkBoundsOffCount_0 : List UInt8 := [26, 27, 44, 184, 0, 48, 184, 1, 163, 87, 177]
abbrev dktJ15_checkBoundsOffCount_0 : List UInt8 := dkwJ15_checkBoundsOffCount_0 ++ []
theorem dksJ15_checkBoundsOffCount_0 : cJ15_checkBoundsOffCount.data.toList.drop 0 = dktJ15_checkBoundsOffCount_0 := by decide +kernel
theorem dJ15_checkBoundsOffCount_0 : decode cJ15_checkBoundsOffCount 0 = .ok (.iload_n 0, 1) := dk_26 (dk_at dksJ15_checkBoundsOffCount_0 0 rfl rfl)
theorem dJ15_checkBoundsOffCount_1 : decode cJ15_checkBoundsOffCount 1 = .ok (.iload_n 1, 1) := dk_27 (dk_at dksJ15_checkBoundsOffCount_0 1 rfl rfl)
theorem dJ15_checkBoundsOffCount_2 : decode cJ15_checkBoundsOffCount 2 = .ok (.aload_n 2, 1) := dk_44 (dk_at dksJ15_checkBoundsOffCount_0 2 rfl rfl)
theorem dJ15_checkBoundsOffCount_3 : decode cJ15_checkBoundsOffCount 3 = .ok (.invokestatic 48, 3) := dk_184 0 48 (dk_at dksJ15_checkBoundsOffCount_0 3 rfl rfl)
theorem dJ15_checkBoundsOffCount_6 : decode cJ15_checkBoundsOffCount 6 = .ok (.invokestatic 419, 3) := dk_184 1 163 (dk_at dksJ15_checkBoundsOffCount_0 6 rfl rfl)
theorem dJ15_checkBoundsOffCount_9 : decode cJ15_checkBoundsOffCount 9 = .ok (.pop, 1) := dk_87 (dk_at dksJ15_checkBoundsOffCount_0 9 rfl rfl)
theorem dJ15_checkBoundsOffCount_10 : decode cJ15_checkBoundsOffCount 10 = .ok (.return_, 1) := dk_177 (dk_at dksJ15_checkBoundsOffCount_0 10 rfl rfl)
abbrev cJ15_getChars : ByteArray := prog_39_method_77_code
def yJ15_getChars : MethodName := ⟨RJ15, "getChars", "(III[B)I"⟩
def dkwJ15_getChars_1 : List UInt8 := [159, 0, 11, 187, 0, 52, 89, 183, 0, 66, 191, 21, 4, 172]
abbrev dktJ15_getChars_1 : List UInt8 := dkwJ15_getChars_1 ++ []
def dkwJ15_getChars_0 : List UInt8 := [27, 28, 45, 184, 0, 96, 26, 28, 45, 184, 1, 137, 54, 4, 178, 0, 44, 154, 0, 17, 27, 21, 4]
abbrev dktJ15_getChars_0 : List UInt8 := dkwJ15_getChars_0 ++ dktJ15_getChars_1
theorem dksJ15_getChars_0 : cJ15_getChars.data.toList.drop 0 = dktJ15_getChars_0 := by decide +kernel
theorem dksJ15_getChars_1 : cJ15_getChars.data.toList.drop 23 = dktJ15_getChars_1 := dk_seg dksJ15_getChars_0 23 rfl rfl
theorem dJ15_getChars_0 : decode cJ15_getChars 0 = .ok (.iload_n 1, 1) := dk_27 (dk_at dksJ15_getChars_0 0 rfl rfl)
theorem dJ15_getChars_1 : decode cJ15_getChars 1 = .ok (.iload_n 2, 1) := dk_28 (dk_at dksJ15_getChars_0 1 rfl rfl)
theorem dJ15_getChars_2 : decode cJ15_getChars 2 = .ok (.aload_n 3, 1) := dk_45 (dk_at dksJ15_getChars_0 2 rfl rfl)
theorem dJ15_getChars_3 : decode cJ15_getChars 3 = .ok (.invokestatic 96, 3) := dk_184 0 96 (dk_at dksJ15_getChars_0 3 rfl rfl)
theorem dJ15_getChars_6 : decode cJ15_getChars 6 = .ok (.iload_n 0, 1) := dk_26 (dk_at dksJ15_getChars_0 6 rfl rfl)
theorem dJ15_getChars_7 : decode cJ15_getChars 7 = .ok (.iload_n 2, 1) := dk_28 (dk_at dksJ15_getChars_0 7 rfl rfl)
theorem dJ15_getChars_8 : decode cJ15_getChars 8 = .ok (.aload_n 3, 1) := dk_45 (dk_at dksJ15_getChars_0 8 rfl rfl)
theorem dJ15_getChars_9 : decode cJ15_getChars 9 = .ok (.invokestatic 393, 3) := dk_184 1 137 (dk_at dksJ15_getChars_0 9 rfl rfl)
theorem dJ15_getChars_12 : decode cJ15_getChars 12 = .ok (.istore 4, 2) := dk_54 4 (dk_at dksJ15_getChars_0 12 rfl rfl)
theorem dJ15_getChars_14 : decode cJ15_getChars 14 = .ok (.getstatic 44, 3) := dk_178 0 44 (dk_at dksJ15_getChars_0 14 rfl rfl)
theorem dJ15_getChars_17 : decode cJ15_getChars 17 = .ok (.ifCond .ne 17, 3) := dk_154 0 17 (dk_at dksJ15_getChars_0 17 rfl rfl)
theorem dJ15_getChars_20 : decode cJ15_getChars 20 = .ok (.iload_n 1, 1) := dk_27 (dk_at dksJ15_getChars_0 20 rfl rfl)
theorem dJ15_getChars_21 : decode cJ15_getChars 21 = .ok (.iload 4, 2) := dk_21 4 (dk_at dksJ15_getChars_0 21 rfl rfl)
theorem dJ15_getChars_23 : decode cJ15_getChars 23 = .ok (.if_icmp .eq 11, 3) := dk_159 0 11 (dk_at dksJ15_getChars_1 0 rfl rfl)
theorem dJ15_getChars_26 : decode cJ15_getChars 26 = .ok (.new 52, 3) := dk_187 0 52 (dk_at dksJ15_getChars_1 3 rfl rfl)
theorem dJ15_getChars_29 : decode cJ15_getChars 29 = .ok (.dup, 1) := dk_89 (dk_at dksJ15_getChars_1 6 rfl rfl)
theorem dJ15_getChars_30 : decode cJ15_getChars 30 = .ok (.invokespecial 66, 3) := dk_183 0 66 (dk_at dksJ15_getChars_1 7 rfl rfl)
theorem dJ15_getChars_33 : decode cJ15_getChars 33 = .ok (.athrow, 1) := dk_191 (dk_at dksJ15_getChars_1 10 rfl rfl)
theorem dJ15_getChars_34 : decode cJ15_getChars 34 = .ok (.iload 4, 2) := dk_21 4 (dk_at dksJ15_getChars_1 11 rfl rfl)
theorem dJ15_getChars_36 : decode cJ15_getChars 36 = .ok (.ireturn, 1) := dk_172 (dk_at dksJ15_getChars_1 13 rfl rfl)
abbrev cJ15_getChars_2 : ByteArray := prog_39_method_89_code
def yJ15_getChars_2 : MethodName := ⟨RJ15, "getChars", "(II[B)I"⟩
def dkwJ15_getChars_2_5 : List UInt8 := [132, 5, 255, 21, 5, 16, 45, 184, 0, 111, 21, 5, 172]
abbrev dktJ15_getChars_2_5 : List UInt8 := dkwJ15_getChars_2_5 ++ []
def dkwJ15_getChars_2_4 : List UInt8 := [162, 0, 18, 44, 132, 5, 255, 21, 5, 178, 1, 151, 26, 116, 51, 184, 0, 111, 21, 6, 153, 0, 14, 44]
abbrev dktJ15_getChars_2_4 : List UInt8 := dkwJ15_getChars_2_4 ++ dktJ15_getChars_2_5
def dkwJ15_getChars_2_3 : List UInt8 := [184, 0, 111, 167, 255, 205, 44, 132, 5, 255, 21, 5, 178, 1, 147, 26, 116, 51, 184, 0, 111, 26, 16, 247]
abbrev dktJ15_getChars_2_3 : List UInt8 := dkwJ15_getChars_2_3 ++ dktJ15_getChars_2_4
def dkwJ15_getChars_2_2 : List UInt8 := [21, 5, 178, 1, 147, 21, 4, 51, 184, 0, 111, 44, 132, 5, 255, 21, 5, 178, 1, 151, 21, 4, 51]
abbrev dktJ15_getChars_2_2 : List UInt8 := dkwJ15_getChars_2_2 ++ dktJ15_getChars_2_3
def dkwJ15_getChars_2_1 : List UInt8 := [16, 156, 163, 0, 51, 26, 16, 100, 108, 62, 29, 16, 100, 104, 26, 100, 54, 4, 29, 59, 44, 132, 5, 255]
abbrev dktJ15_getChars_2_1 : List UInt8 := dkwJ15_getChars_2_1 ++ dktJ15_getChars_2_2
def dkwJ15_getChars_2_0 : List UInt8 := [27, 54, 5, 26, 156, 0, 7, 4, 167, 0, 4, 3, 54, 6, 21, 6, 154, 0, 6, 26, 116, 59, 26]
abbrev dktJ15_getChars_2_0 : List UInt8 := dkwJ15_getChars_2_0 ++ dktJ15_getChars_2_1
theorem dksJ15_getChars_2_0 : cJ15_getChars_2.data.toList.drop 0 = dktJ15_getChars_2_0 := by decide +kernel
theorem dksJ15_getChars_2_1 : cJ15_getChars_2.data.toList.drop 23 = dktJ15_getChars_2_1 := dk_seg dksJ15_getChars_2_0 23 rfl rfl
theorem dksJ15_getChars_2_2 : cJ15_getChars_2.data.toList.drop 47 = dktJ15_getChars_2_2 := dk_seg dksJ15_getChars_2_1 24 rfl rfl
theorem dksJ15_getChars_2_3 : cJ15_getChars_2.data.toList.drop 70 = dktJ15_getChars_2_3 := dk_seg dksJ15_getChars_2_2 23 rfl rfl
theorem dksJ15_getChars_2_4 : cJ15_getChars_2.data.toList.drop 94 = dktJ15_getChars_2_4 := dk_seg dksJ15_getChars_2_3 24 rfl rfl
theorem dksJ15_getChars_2_5 : cJ15_getChars_2.data.toList.drop 118 = dktJ15_getChars_2_5 := dk_seg dksJ15_getChars_2_4 24 rfl rfl
theorem dJ15_getChars_2_0 : decode cJ15_getChars_2 0 = .ok (.iload_n 1, 1) := dk_27 (dk_at dksJ15_getChars_2_0 0 rfl rfl)
theorem dJ15_getChars_2_1 : decode cJ15_getChars_2 1 = .ok (.istore 5, 2) := dk_54 5 (dk_at dksJ15_getChars_2_0 1 rfl rfl)
theorem dJ15_getChars_2_3 : decode cJ15_getChars_2 3 = .ok (.iload_n 0, 1) := dk_26 (dk_at dksJ15_getChars_2_0 3 rfl rfl)
theorem dJ15_getChars_2_4 : decode cJ15_getChars_2 4 = .ok (.ifCond .ge 7, 3) := dk_156 0 7 (dk_at dksJ15_getChars_2_0 4 rfl rfl)
theorem dJ15_getChars_2_7 : decode cJ15_getChars_2 7 = .ok (.iconst 1, 1) := dk_4 (dk_at dksJ15_getChars_2_0 7 rfl rfl)
theorem dJ15_getChars_2_8 : decode cJ15_getChars_2 8 = .ok (.goto 4, 3) := dk_167 0 4 (dk_at dksJ15_getChars_2_0 8 rfl rfl)
theorem dJ15_getChars_2_11 : decode cJ15_getChars_2 11 = .ok (.iconst 0, 1) := dk_3 (dk_at dksJ15_getChars_2_0 11 rfl rfl)
theorem dJ15_getChars_2_12 : decode cJ15_getChars_2 12 = .ok (.istore 6, 2) := dk_54 6 (dk_at dksJ15_getChars_2_0 12 rfl rfl)
theorem dJ15_getChars_2_14 : decode cJ15_getChars_2 14 = .ok (.iload 6, 2) := dk_21 6 (dk_at dksJ15_getChars_2_0 14 rfl rfl)
theorem dJ15_getChars_2_16 : decode cJ15_getChars_2 16 = .ok (.ifCond .ne 6, 3) := dk_154 0 6 (dk_at dksJ15_getChars_2_0 16 rfl rfl)
theorem dJ15_getChars_2_19 : decode cJ15_getChars_2 19 = .ok (.iload_n 0, 1) := dk_26 (dk_at dksJ15_getChars_2_0 19 rfl rfl)
theorem dJ15_getChars_2_20 : decode cJ15_getChars_2 20 = .ok (.ineg, 1) := dk_116 (dk_at dksJ15_getChars_2_0 20 rfl rfl)
theorem dJ15_getChars_2_21 : decode cJ15_getChars_2 21 = .ok (.istore_n 0, 1) := dk_59 (dk_at dksJ15_getChars_2_0 21 rfl rfl)
theorem dJ15_getChars_2_22 : decode cJ15_getChars_2 22 = .ok (.iload_n 0, 1) := dk_26 (dk_at dksJ15_getChars_2_0 22 rfl rfl)
theorem dJ15_getChars_2_23 : decode cJ15_getChars_2 23 = .ok (.bipush (-100), 2) := dk_16 156 (dk_at dksJ15_getChars_2_1 0 rfl rfl)
theorem dJ15_getChars_2_25 : decode cJ15_getChars_2 25 = .ok (.if_icmp .gt 51, 3) := dk_163 0 51 (dk_at dksJ15_getChars_2_1 2 rfl rfl)
theorem dJ15_getChars_2_28 : decode cJ15_getChars_2 28 = .ok (.iload_n 0, 1) := dk_26 (dk_at dksJ15_getChars_2_1 5 rfl rfl)
theorem dJ15_getChars_2_29 : decode cJ15_getChars_2 29 = .ok (.bipush 100, 2) := dk_16 100 (dk_at dksJ15_getChars_2_1 6 rfl rfl)
theorem dJ15_getChars_2_31 : decode cJ15_getChars_2 31 = .ok (.idiv, 1) := dk_108 (dk_at dksJ15_getChars_2_1 8 rfl rfl)
theorem dJ15_getChars_2_32 : decode cJ15_getChars_2 32 = .ok (.istore_n 3, 1) := dk_62 (dk_at dksJ15_getChars_2_1 9 rfl rfl)
theorem dJ15_getChars_2_33 : decode cJ15_getChars_2 33 = .ok (.iload_n 3, 1) := dk_29 (dk_at dksJ15_getChars_2_1 10 rfl rfl)
theorem dJ15_getChars_2_34 : decode cJ15_getChars_2 34 = .ok (.bipush 100, 2) := dk_16 100 (dk_at dksJ15_getChars_2_1 11 rfl rfl)
theorem dJ15_getChars_2_36 : decode cJ15_getChars_2 36 = .ok (.imul, 1) := dk_104 (dk_at dksJ15_getChars_2_1 13 rfl rfl)
theorem dJ15_getChars_2_37 : decode cJ15_getChars_2 37 = .ok (.iload_n 0, 1) := dk_26 (dk_at dksJ15_getChars_2_1 14 rfl rfl)
theorem dJ15_getChars_2_38 : decode cJ15_getChars_2 38 = .ok (.isub, 1) := dk_100 (dk_at dksJ15_getChars_2_1 15 rfl rfl)
theorem dJ15_getChars_2_39 : decode cJ15_getChars_2 39 = .ok (.istore 4, 2) := dk_54 4 (dk_at dksJ15_getChars_2_1 16 rfl rfl)
theorem dJ15_getChars_2_41 : decode cJ15_getChars_2 41 = .ok (.iload_n 3, 1) := dk_29 (dk_at dksJ15_getChars_2_1 18 rfl rfl)
theorem dJ15_getChars_2_42 : decode cJ15_getChars_2 42 = .ok (.istore_n 0, 1) := dk_59 (dk_at dksJ15_getChars_2_1 19 rfl rfl)
theorem dJ15_getChars_2_43 : decode cJ15_getChars_2 43 = .ok (.aload_n 2, 1) := dk_44 (dk_at dksJ15_getChars_2_1 20 rfl rfl)
theorem dJ15_getChars_2_44 : decode cJ15_getChars_2 44 = .ok (.iinc 5 (-1), 3) := dk_132 5 255 (dk_at dksJ15_getChars_2_1 21 rfl rfl)
theorem dJ15_getChars_2_47 : decode cJ15_getChars_2 47 = .ok (.iload 5, 2) := dk_21 5 (dk_at dksJ15_getChars_2_2 0 rfl rfl)
theorem dJ15_getChars_2_49 : decode cJ15_getChars_2 49 = .ok (.getstatic 403, 3) := dk_178 1 147 (dk_at dksJ15_getChars_2_2 2 rfl rfl)
theorem dJ15_getChars_2_52 : decode cJ15_getChars_2 52 = .ok (.iload 4, 2) := dk_21 4 (dk_at dksJ15_getChars_2_2 5 rfl rfl)
theorem dJ15_getChars_2_54 : decode cJ15_getChars_2 54 = .ok (.baload, 1) := dk_51 (dk_at dksJ15_getChars_2_2 7 rfl rfl)
theorem dJ15_getChars_2_55 : decode cJ15_getChars_2 55 = .ok (.invokestatic 111, 3) := dk_184 0 111 (dk_at dksJ15_getChars_2_2 8 rfl rfl)
theorem dJ15_getChars_2_58 : decode cJ15_getChars_2 58 = .ok (.aload_n 2, 1) := dk_44 (dk_at dksJ15_getChars_2_2 11 rfl rfl)
theorem dJ15_getChars_2_59 : decode cJ15_getChars_2 59 = .ok (.iinc 5 (-1), 3) := dk_132 5 255 (dk_at dksJ15_getChars_2_2 12 rfl rfl)
theorem dJ15_getChars_2_62 : decode cJ15_getChars_2 62 = .ok (.iload 5, 2) := dk_21 5 (dk_at dksJ15_getChars_2_2 15 rfl rfl)
theorem dJ15_getChars_2_64 : decode cJ15_getChars_2 64 = .ok (.getstatic 407, 3) := dk_178 1 151 (dk_at dksJ15_getChars_2_2 17 rfl rfl)
theorem dJ15_getChars_2_67 : decode cJ15_getChars_2 67 = .ok (.iload 4, 2) := dk_21 4 (dk_at dksJ15_getChars_2_2 20 rfl rfl)
theorem dJ15_getChars_2_69 : decode cJ15_getChars_2 69 = .ok (.baload, 1) := dk_51 (dk_at dksJ15_getChars_2_2 22 rfl rfl)
theorem dJ15_getChars_2_70 : decode cJ15_getChars_2 70 = .ok (.invokestatic 111, 3) := dk_184 0 111 (dk_at dksJ15_getChars_2_3 0 rfl rfl)
theorem dJ15_getChars_2_73 : decode cJ15_getChars_2 73 = .ok (.goto (-51), 3) := dk_167 255 205 (dk_at dksJ15_getChars_2_3 3 rfl rfl)
theorem dJ15_getChars_2_76 : decode cJ15_getChars_2 76 = .ok (.aload_n 2, 1) := dk_44 (dk_at dksJ15_getChars_2_3 6 rfl rfl)
theorem dJ15_getChars_2_77 : decode cJ15_getChars_2 77 = .ok (.iinc 5 (-1), 3) := dk_132 5 255 (dk_at dksJ15_getChars_2_3 7 rfl rfl)
theorem dJ15_getChars_2_80 : decode cJ15_getChars_2 80 = .ok (.iload 5, 2) := dk_21 5 (dk_at dksJ15_getChars_2_3 10 rfl rfl)
theorem dJ15_getChars_2_82 : decode cJ15_getChars_2 82 = .ok (.getstatic 403, 3) := dk_178 1 147 (dk_at dksJ15_getChars_2_3 12 rfl rfl)
theorem dJ15_getChars_2_85 : decode cJ15_getChars_2 85 = .ok (.iload_n 0, 1) := dk_26 (dk_at dksJ15_getChars_2_3 15 rfl rfl)
theorem dJ15_getChars_2_86 : decode cJ15_getChars_2 86 = .ok (.ineg, 1) := dk_116 (dk_at dksJ15_getChars_2_3 16 rfl rfl)
theorem dJ15_getChars_2_87 : decode cJ15_getChars_2 87 = .ok (.baload, 1) := dk_51 (dk_at dksJ15_getChars_2_3 17 rfl rfl)
theorem dJ15_getChars_2_88 : decode cJ15_getChars_2 88 = .ok (.invokestatic 111, 3) := dk_184 0 111 (dk_at dksJ15_getChars_2_3 18 rfl rfl)
theorem dJ15_getChars_2_91 : decode cJ15_getChars_2 91 = .ok (.iload_n 0, 1) := dk_26 (dk_at dksJ15_getChars_2_3 21 rfl rfl)
theorem dJ15_getChars_2_92 : decode cJ15_getChars_2 92 = .ok (.bipush (-9), 2) := dk_16 247 (dk_at dksJ15_getChars_2_3 22 rfl rfl)
theorem dJ15_getChars_2_94 : decode cJ15_getChars_2 94 = .ok (.if_icmp .ge 18, 3) := dk_162 0 18 (dk_at dksJ15_getChars_2_4 0 rfl rfl)
theorem dJ15_getChars_2_97 : decode cJ15_getChars_2 97 = .ok (.aload_n 2, 1) := dk_44 (dk_at dksJ15_getChars_2_4 3 rfl rfl)
theorem dJ15_getChars_2_98 : decode cJ15_getChars_2 98 = .ok (.iinc 5 (-1), 3) := dk_132 5 255 (dk_at dksJ15_getChars_2_4 4 rfl rfl)
theorem dJ15_getChars_2_101 : decode cJ15_getChars_2 101 = .ok (.iload 5, 2) := dk_21 5 (dk_at dksJ15_getChars_2_4 7 rfl rfl)
theorem dJ15_getChars_2_103 : decode cJ15_getChars_2 103 = .ok (.getstatic 407, 3) := dk_178 1 151 (dk_at dksJ15_getChars_2_4 9 rfl rfl)
theorem dJ15_getChars_2_106 : decode cJ15_getChars_2 106 = .ok (.iload_n 0, 1) := dk_26 (dk_at dksJ15_getChars_2_4 12 rfl rfl)
theorem dJ15_getChars_2_107 : decode cJ15_getChars_2 107 = .ok (.ineg, 1) := dk_116 (dk_at dksJ15_getChars_2_4 13 rfl rfl)
theorem dJ15_getChars_2_108 : decode cJ15_getChars_2 108 = .ok (.baload, 1) := dk_51 (dk_at dksJ15_getChars_2_4 14 rfl rfl)
theorem dJ15_getChars_2_109 : decode cJ15_getChars_2 109 = .ok (.invokestatic 111, 3) := dk_184 0 111 (dk_at dksJ15_getChars_2_4 15 rfl rfl)
theorem dJ15_getChars_2_112 : decode cJ15_getChars_2 112 = .ok (.iload 6, 2) := dk_21 6 (dk_at dksJ15_getChars_2_4 18 rfl rfl)
theorem dJ15_getChars_2_114 : decode cJ15_getChars_2 114 = .ok (.ifCond .eq 14, 3) := dk_153 0 14 (dk_at dksJ15_getChars_2_4 20 rfl rfl)
theorem dJ15_getChars_2_117 : decode cJ15_getChars_2 117 = .ok (.aload_n 2, 1) := dk_44 (dk_at dksJ15_getChars_2_4 23 rfl rfl)
theorem dJ15_getChars_2_118 : decode cJ15_getChars_2 118 = .ok (.iinc 5 (-1), 3) := dk_132 5 255 (dk_at dksJ15_getChars_2_5 0 rfl rfl)
theorem dJ15_getChars_2_121 : decode cJ15_getChars_2 121 = .ok (.iload 5, 2) := dk_21 5 (dk_at dksJ15_getChars_2_5 3 rfl rfl)
theorem dJ15_getChars_2_123 : decode cJ15_getChars_2 123 = .ok (.bipush 45, 2) := dk_16 45 (dk_at dksJ15_getChars_2_5 5 rfl rfl)
theorem dJ15_getChars_2_125 : decode cJ15_getChars_2 125 = .ok (.invokestatic 111, 3) := dk_184 0 111 (dk_at dksJ15_getChars_2_5 7 rfl rfl)
theorem dJ15_getChars_2_128 : decode cJ15_getChars_2 128 = .ok (.iload 5, 2) := dk_21 5 (dk_at dksJ15_getChars_2_5 10 rfl rfl)
theorem dJ15_getChars_2_130 : decode cJ15_getChars_2 130 = .ok (.ireturn, 1) := dk_172 (dk_at dksJ15_getChars_2_5 12 rfl rfl)
abbrev cJ15_compress : ByteArray := prog_39_method_17_code
def yJ15_compress : MethodName := ⟨RJ15, "compress", "([BII)[B"⟩
def dkwJ15_compress_2 : List UInt8 := [25, 5, 3, 45, 3, 28, 184, 0, 123, 28, 159, 0, 6, 25, 5, 176, 45, 176]
abbrev dktJ15_compress_2 : List UInt8 := dkwJ15_compress_2 ++ []
def dkwJ15_compress_1 : List UInt8 := [27, 28, 96, 184, 0, 11, 184, 0, 126, 58, 5, 25, 5, 21, 4, 184, 0, 71, 17, 0, 255, 163, 0, 16]
abbrev dktJ15_compress_1 : List UInt8 := dkwJ15_compress_1 ++ dktJ15_compress_2
def dkwJ15_compress_0 : List UInt8 := [28, 188, 8, 78, 42, 27, 45, 3, 28, 184, 0, 123, 54, 4, 21, 4, 28, 159, 0, 47, 42, 27, 4, 120]
abbrev dktJ15_compress_0 : List UInt8 := dkwJ15_compress_0 ++ dktJ15_compress_1
theorem dksJ15_compress_0 : cJ15_compress.data.toList.drop 0 = dktJ15_compress_0 := by decide +kernel
theorem dksJ15_compress_1 : cJ15_compress.data.toList.drop 24 = dktJ15_compress_1 := dk_seg dksJ15_compress_0 24 rfl rfl
theorem dksJ15_compress_2 : cJ15_compress.data.toList.drop 48 = dktJ15_compress_2 := dk_seg dksJ15_compress_1 24 rfl rfl
theorem dJ15_compress_0 : decode cJ15_compress 0 = .ok (.iload_n 2, 1) := dk_28 (dk_at dksJ15_compress_0 0 rfl rfl)
theorem dJ15_compress_1 : decode cJ15_compress 1 = .ok (.newarray .byte, 2) := dk_188_8 (dk_at dksJ15_compress_0 1 rfl rfl)
theorem dJ15_compress_3 : decode cJ15_compress 3 = .ok (.astore_n 3, 1) := dk_78 (dk_at dksJ15_compress_0 3 rfl rfl)
theorem dJ15_compress_4 : decode cJ15_compress 4 = .ok (.aload_n 0, 1) := dk_42 (dk_at dksJ15_compress_0 4 rfl rfl)
theorem dJ15_compress_5 : decode cJ15_compress 5 = .ok (.iload_n 1, 1) := dk_27 (dk_at dksJ15_compress_0 5 rfl rfl)
theorem dJ15_compress_6 : decode cJ15_compress 6 = .ok (.aload_n 3, 1) := dk_45 (dk_at dksJ15_compress_0 6 rfl rfl)
theorem dJ15_compress_7 : decode cJ15_compress 7 = .ok (.iconst 0, 1) := dk_3 (dk_at dksJ15_compress_0 7 rfl rfl)
theorem dJ15_compress_8 : decode cJ15_compress 8 = .ok (.iload_n 2, 1) := dk_28 (dk_at dksJ15_compress_0 8 rfl rfl)
theorem dJ15_compress_9 : decode cJ15_compress 9 = .ok (.invokestatic 123, 3) := dk_184 0 123 (dk_at dksJ15_compress_0 9 rfl rfl)
theorem dJ15_compress_12 : decode cJ15_compress 12 = .ok (.istore 4, 2) := dk_54 4 (dk_at dksJ15_compress_0 12 rfl rfl)
theorem dJ15_compress_14 : decode cJ15_compress 14 = .ok (.iload 4, 2) := dk_21 4 (dk_at dksJ15_compress_0 14 rfl rfl)
theorem dJ15_compress_16 : decode cJ15_compress 16 = .ok (.iload_n 2, 1) := dk_28 (dk_at dksJ15_compress_0 16 rfl rfl)
theorem dJ15_compress_17 : decode cJ15_compress 17 = .ok (.if_icmp .eq 47, 3) := dk_159 0 47 (dk_at dksJ15_compress_0 17 rfl rfl)
theorem dJ15_compress_20 : decode cJ15_compress 20 = .ok (.aload_n 0, 1) := dk_42 (dk_at dksJ15_compress_0 20 rfl rfl)
theorem dJ15_compress_21 : decode cJ15_compress 21 = .ok (.iload_n 1, 1) := dk_27 (dk_at dksJ15_compress_0 21 rfl rfl)
theorem dJ15_compress_22 : decode cJ15_compress 22 = .ok (.iconst 1, 1) := dk_4 (dk_at dksJ15_compress_0 22 rfl rfl)
theorem dJ15_compress_23 : decode cJ15_compress 23 = .ok (.ishl, 1) := dk_120 (dk_at dksJ15_compress_0 23 rfl rfl)
theorem dJ15_compress_24 : decode cJ15_compress 24 = .ok (.iload_n 1, 1) := dk_27 (dk_at dksJ15_compress_1 0 rfl rfl)
theorem dJ15_compress_25 : decode cJ15_compress 25 = .ok (.iload_n 2, 1) := dk_28 (dk_at dksJ15_compress_1 1 rfl rfl)
theorem dJ15_compress_26 : decode cJ15_compress 26 = .ok (.iadd, 1) := dk_96 (dk_at dksJ15_compress_1 2 rfl rfl)
theorem dJ15_compress_27 : decode cJ15_compress 27 = .ok (.invokestatic 11, 3) := dk_184 0 11 (dk_at dksJ15_compress_1 3 rfl rfl)
theorem dJ15_compress_30 : decode cJ15_compress 30 = .ok (.invokestatic 126, 3) := dk_184 0 126 (dk_at dksJ15_compress_1 6 rfl rfl)
theorem dJ15_compress_33 : decode cJ15_compress 33 = .ok (.astore 5, 2) := dk_58 5 (dk_at dksJ15_compress_1 9 rfl rfl)
theorem dJ15_compress_35 : decode cJ15_compress 35 = .ok (.aload 5, 2) := dk_25 5 (dk_at dksJ15_compress_1 11 rfl rfl)
theorem dJ15_compress_37 : decode cJ15_compress 37 = .ok (.iload 4, 2) := dk_21 4 (dk_at dksJ15_compress_1 13 rfl rfl)
theorem dJ15_compress_39 : decode cJ15_compress 39 = .ok (.invokestatic 71, 3) := dk_184 0 71 (dk_at dksJ15_compress_1 15 rfl rfl)
theorem dJ15_compress_42 : decode cJ15_compress 42 = .ok (.sipush 255, 3) := dk_17 0 255 (dk_at dksJ15_compress_1 18 rfl rfl)
theorem dJ15_compress_45 : decode cJ15_compress 45 = .ok (.if_icmp .gt 16, 3) := dk_163 0 16 (dk_at dksJ15_compress_1 21 rfl rfl)
theorem dJ15_compress_48 : decode cJ15_compress 48 = .ok (.aload 5, 2) := dk_25 5 (dk_at dksJ15_compress_2 0 rfl rfl)
theorem dJ15_compress_50 : decode cJ15_compress 50 = .ok (.iconst 0, 1) := dk_3 (dk_at dksJ15_compress_2 2 rfl rfl)
theorem dJ15_compress_51 : decode cJ15_compress 51 = .ok (.aload_n 3, 1) := dk_45 (dk_at dksJ15_compress_2 3 rfl rfl)
theorem dJ15_compress_52 : decode cJ15_compress 52 = .ok (.iconst 0, 1) := dk_3 (dk_at dksJ15_compress_2 4 rfl rfl)
theorem dJ15_compress_53 : decode cJ15_compress 53 = .ok (.iload_n 2, 1) := dk_28 (dk_at dksJ15_compress_2 5 rfl rfl)
theorem dJ15_compress_54 : decode cJ15_compress 54 = .ok (.invokestatic 123, 3) := dk_184 0 123 (dk_at dksJ15_compress_2 6 rfl rfl)
theorem dJ15_compress_57 : decode cJ15_compress 57 = .ok (.iload_n 2, 1) := dk_28 (dk_at dksJ15_compress_2 9 rfl rfl)
theorem dJ15_compress_58 : decode cJ15_compress 58 = .ok (.if_icmp .eq 6, 3) := dk_159 0 6 (dk_at dksJ15_compress_2 10 rfl rfl)
theorem dJ15_compress_61 : decode cJ15_compress 61 = .ok (.aload 5, 2) := dk_25 5 (dk_at dksJ15_compress_2 13 rfl rfl)
theorem dJ15_compress_63 : decode cJ15_compress 63 = .ok (.areturn, 1) := dk_176 (dk_at dksJ15_compress_2 15 rfl rfl)
theorem dJ15_compress_64 : decode cJ15_compress 64 = .ok (.aload_n 3, 1) := dk_45 (dk_at dksJ15_compress_2 16 rfl rfl)
theorem dJ15_compress_65 : decode cJ15_compress 65 = .ok (.areturn, 1) := dk_176 (dk_at dksJ15_compress_2 17 rfl rfl)
abbrev cJ15_compress_2 : ByteArray := prog_39_method_22_code
def yJ15_compress_2 : MethodName := ⟨RJ15, "compress", "([BI[BII)I"⟩
def dkwJ15_compress_2_2 : List UInt8 := [132, 5, 1, 167, 255, 216, 21, 4, 172]
abbrev dktJ15_compress_2_2 : List UInt8 := dkwJ15_compress_2_2 ++ []
def dkwJ15_compress_2_1 : List UInt8 := [21, 6, 17, 0, 255, 164, 0, 6, 21, 5, 172, 44, 29, 21, 6, 145, 84, 132, 1, 1, 132, 3, 1]
abbrev dktJ15_compress_2_1 : List UInt8 := dkwJ15_compress_2_1 ++ dktJ15_compress_2_2
def dkwJ15_compress_2_0 : List UInt8 := [27, 21, 4, 42, 184, 0, 173, 3, 54, 5, 21, 5, 21, 4, 162, 0, 39, 42, 27, 184, 0, 71, 54, 6]
abbrev dktJ15_compress_2_0 : List UInt8 := dkwJ15_compress_2_0 ++ dktJ15_compress_2_1
theorem dksJ15_compress_2_0 : cJ15_compress_2.data.toList.drop 0 = dktJ15_compress_2_0 := by decide +kernel
theorem dksJ15_compress_2_1 : cJ15_compress_2.data.toList.drop 24 = dktJ15_compress_2_1 := dk_seg dksJ15_compress_2_0 24 rfl rfl
theorem dksJ15_compress_2_2 : cJ15_compress_2.data.toList.drop 47 = dktJ15_compress_2_2 := dk_seg dksJ15_compress_2_1 23 rfl rfl
theorem dJ15_compress_2_0 : decode cJ15_compress_2 0 = .ok (.iload_n 1, 1) := dk_27 (dk_at dksJ15_compress_2_0 0 rfl rfl)
theorem dJ15_compress_2_1 : decode cJ15_compress_2 1 = .ok (.iload 4, 2) := dk_21 4 (dk_at dksJ15_compress_2_0 1 rfl rfl)
theorem dJ15_compress_2_3 : decode cJ15_compress_2 3 = .ok (.aload_n 0, 1) := dk_42 (dk_at dksJ15_compress_2_0 3 rfl rfl)
theorem dJ15_compress_2_4 : decode cJ15_compress_2 4 = .ok (.invokestatic 173, 3) := dk_184 0 173 (dk_at dksJ15_compress_2_0 4 rfl rfl)
theorem dJ15_compress_2_7 : decode cJ15_compress_2 7 = .ok (.iconst 0, 1) := dk_3 (dk_at dksJ15_compress_2_0 7 rfl rfl)
theorem dJ15_compress_2_8 : decode cJ15_compress_2 8 = .ok (.istore 5, 2) := dk_54 5 (dk_at dksJ15_compress_2_0 8 rfl rfl)
theorem dJ15_compress_2_10 : decode cJ15_compress_2 10 = .ok (.iload 5, 2) := dk_21 5 (dk_at dksJ15_compress_2_0 10 rfl rfl)
theorem dJ15_compress_2_12 : decode cJ15_compress_2 12 = .ok (.iload 4, 2) := dk_21 4 (dk_at dksJ15_compress_2_0 12 rfl rfl)
theorem dJ15_compress_2_14 : decode cJ15_compress_2 14 = .ok (.if_icmp .ge 39, 3) := dk_162 0 39 (dk_at dksJ15_compress_2_0 14 rfl rfl)
theorem dJ15_compress_2_17 : decode cJ15_compress_2 17 = .ok (.aload_n 0, 1) := dk_42 (dk_at dksJ15_compress_2_0 17 rfl rfl)
theorem dJ15_compress_2_18 : decode cJ15_compress_2 18 = .ok (.iload_n 1, 1) := dk_27 (dk_at dksJ15_compress_2_0 18 rfl rfl)
theorem dJ15_compress_2_19 : decode cJ15_compress_2 19 = .ok (.invokestatic 71, 3) := dk_184 0 71 (dk_at dksJ15_compress_2_0 19 rfl rfl)
theorem dJ15_compress_2_22 : decode cJ15_compress_2 22 = .ok (.istore 6, 2) := dk_54 6 (dk_at dksJ15_compress_2_0 22 rfl rfl)
theorem dJ15_compress_2_24 : decode cJ15_compress_2 24 = .ok (.iload 6, 2) := dk_21 6 (dk_at dksJ15_compress_2_1 0 rfl rfl)
theorem dJ15_compress_2_26 : decode cJ15_compress_2 26 = .ok (.sipush 255, 3) := dk_17 0 255 (dk_at dksJ15_compress_2_1 2 rfl rfl)
theorem dJ15_compress_2_29 : decode cJ15_compress_2 29 = .ok (.if_icmp .le 6, 3) := dk_164 0 6 (dk_at dksJ15_compress_2_1 5 rfl rfl)
theorem dJ15_compress_2_32 : decode cJ15_compress_2 32 = .ok (.iload 5, 2) := dk_21 5 (dk_at dksJ15_compress_2_1 8 rfl rfl)
theorem dJ15_compress_2_34 : decode cJ15_compress_2 34 = .ok (.ireturn, 1) := dk_172 (dk_at dksJ15_compress_2_1 10 rfl rfl)
theorem dJ15_compress_2_35 : decode cJ15_compress_2 35 = .ok (.aload_n 2, 1) := dk_44 (dk_at dksJ15_compress_2_1 11 rfl rfl)
theorem dJ15_compress_2_36 : decode cJ15_compress_2 36 = .ok (.iload_n 3, 1) := dk_29 (dk_at dksJ15_compress_2_1 12 rfl rfl)
theorem dJ15_compress_2_37 : decode cJ15_compress_2 37 = .ok (.iload 6, 2) := dk_21 6 (dk_at dksJ15_compress_2_1 13 rfl rfl)
theorem dJ15_compress_2_39 : decode cJ15_compress_2 39 = .ok (.i2b, 1) := dk_145 (dk_at dksJ15_compress_2_1 15 rfl rfl)
theorem dJ15_compress_2_40 : decode cJ15_compress_2 40 = .ok (.bastore, 1) := dk_84 (dk_at dksJ15_compress_2_1 16 rfl rfl)
theorem dJ15_compress_2_41 : decode cJ15_compress_2 41 = .ok (.iinc 1 1, 3) := dk_132 1 1 (dk_at dksJ15_compress_2_1 17 rfl rfl)
theorem dJ15_compress_2_44 : decode cJ15_compress_2 44 = .ok (.iinc 3 1, 3) := dk_132 3 1 (dk_at dksJ15_compress_2_1 20 rfl rfl)
theorem dJ15_compress_2_47 : decode cJ15_compress_2 47 = .ok (.iinc 5 1, 3) := dk_132 5 1 (dk_at dksJ15_compress_2_2 0 rfl rfl)
theorem dJ15_compress_2_50 : decode cJ15_compress_2 50 = .ok (.goto (-40), 3) := dk_167 255 216 (dk_at dksJ15_compress_2_2 3 rfl rfl)
theorem dJ15_compress_2_53 : decode cJ15_compress_2 53 = .ok (.iload 4, 2) := dk_21 4 (dk_at dksJ15_compress_2_2 6 rfl rfl)
theorem dJ15_compress_2_55 : decode cJ15_compress_2 55 = .ok (.ireturn, 1) := dk_172 (dk_at dksJ15_compress_2_2 8 rfl rfl)
abbrev cJ15_getChar : ByteArray := prog_39_method_5_code
def yJ15_getChar : MethodName := ⟨RJ15, "getChar", "([BI)C"⟩
def dkwJ15_getChar_2 : List UInt8 := [51, 17, 0, 255, 126, 178, 0, 63, 120, 128, 146, 172]
abbrev dktJ15_getChar_2 : List UInt8 := dkwJ15_getChar_2 ++ []
def dkwJ15_getChar_1 : List UInt8 := [183, 0, 56, 191, 27, 4, 120, 60, 42, 27, 132, 1, 1, 51, 17, 0, 255, 126, 178, 0, 59, 120, 42, 27]
abbrev dktJ15_getChar_1 : List UInt8 := dkwJ15_getChar_1 ++ dktJ15_getChar_2
def dkwJ15_getChar_0 : List UInt8 := [178, 0, 44, 154, 0, 25, 27, 155, 0, 11, 27, 42, 184, 0, 48, 161, 0, 13, 187, 0, 52, 89, 18, 54]
abbrev dktJ15_getChar_0 : List UInt8 := dkwJ15_getChar_0 ++ dktJ15_getChar_1
theorem dksJ15_getChar_0 : cJ15_getChar.data.toList.drop 0 = dktJ15_getChar_0 := by decide +kernel
theorem dksJ15_getChar_1 : cJ15_getChar.data.toList.drop 24 = dktJ15_getChar_1 := dk_seg dksJ15_getChar_0 24 rfl rfl
theorem dksJ15_getChar_2 : cJ15_getChar.data.toList.drop 48 = dktJ15_getChar_2 := dk_seg dksJ15_getChar_1 24 rfl rfl
theorem dJ15_getChar_0 : decode cJ15_getChar 0 = .ok (.getstatic 44, 3) := dk_178 0 44 (dk_at dksJ15_getChar_0 0 rfl rfl)
theorem dJ15_getChar_3 : decode cJ15_getChar 3 = .ok (.ifCond .ne 25, 3) := dk_154 0 25 (dk_at dksJ15_getChar_0 3 rfl rfl)
theorem dJ15_getChar_6 : decode cJ15_getChar 6 = .ok (.iload_n 1, 1) := dk_27 (dk_at dksJ15_getChar_0 6 rfl rfl)
theorem dJ15_getChar_7 : decode cJ15_getChar 7 = .ok (.ifCond .lt 11, 3) := dk_155 0 11 (dk_at dksJ15_getChar_0 7 rfl rfl)
theorem dJ15_getChar_10 : decode cJ15_getChar 10 = .ok (.iload_n 1, 1) := dk_27 (dk_at dksJ15_getChar_0 10 rfl rfl)
theorem dJ15_getChar_11 : decode cJ15_getChar 11 = .ok (.aload_n 0, 1) := dk_42 (dk_at dksJ15_getChar_0 11 rfl rfl)
theorem dJ15_getChar_12 : decode cJ15_getChar 12 = .ok (.invokestatic 48, 3) := dk_184 0 48 (dk_at dksJ15_getChar_0 12 rfl rfl)
theorem dJ15_getChar_15 : decode cJ15_getChar 15 = .ok (.if_icmp .lt 13, 3) := dk_161 0 13 (dk_at dksJ15_getChar_0 15 rfl rfl)
theorem dJ15_getChar_18 : decode cJ15_getChar 18 = .ok (.new 52, 3) := dk_187 0 52 (dk_at dksJ15_getChar_0 18 rfl rfl)
theorem dJ15_getChar_21 : decode cJ15_getChar 21 = .ok (.dup, 1) := dk_89 (dk_at dksJ15_getChar_0 21 rfl rfl)
theorem dJ15_getChar_22 : decode cJ15_getChar 22 = .ok (.ldc 54, 2) := dk_18 54 (dk_at dksJ15_getChar_0 22 rfl rfl)
theorem dJ15_getChar_24 : decode cJ15_getChar 24 = .ok (.invokespecial 56, 3) := dk_183 0 56 (dk_at dksJ15_getChar_1 0 rfl rfl)
theorem dJ15_getChar_27 : decode cJ15_getChar 27 = .ok (.athrow, 1) := dk_191 (dk_at dksJ15_getChar_1 3 rfl rfl)
theorem dJ15_getChar_28 : decode cJ15_getChar 28 = .ok (.iload_n 1, 1) := dk_27 (dk_at dksJ15_getChar_1 4 rfl rfl)
theorem dJ15_getChar_29 : decode cJ15_getChar 29 = .ok (.iconst 1, 1) := dk_4 (dk_at dksJ15_getChar_1 5 rfl rfl)
theorem dJ15_getChar_30 : decode cJ15_getChar 30 = .ok (.ishl, 1) := dk_120 (dk_at dksJ15_getChar_1 6 rfl rfl)
theorem dJ15_getChar_31 : decode cJ15_getChar 31 = .ok (.istore_n 1, 1) := dk_60 (dk_at dksJ15_getChar_1 7 rfl rfl)
theorem dJ15_getChar_32 : decode cJ15_getChar 32 = .ok (.aload_n 0, 1) := dk_42 (dk_at dksJ15_getChar_1 8 rfl rfl)
theorem dJ15_getChar_33 : decode cJ15_getChar 33 = .ok (.iload_n 1, 1) := dk_27 (dk_at dksJ15_getChar_1 9 rfl rfl)
theorem dJ15_getChar_34 : decode cJ15_getChar 34 = .ok (.iinc 1 1, 3) := dk_132 1 1 (dk_at dksJ15_getChar_1 10 rfl rfl)
theorem dJ15_getChar_37 : decode cJ15_getChar 37 = .ok (.baload, 1) := dk_51 (dk_at dksJ15_getChar_1 13 rfl rfl)
theorem dJ15_getChar_38 : decode cJ15_getChar 38 = .ok (.sipush 255, 3) := dk_17 0 255 (dk_at dksJ15_getChar_1 14 rfl rfl)
theorem dJ15_getChar_41 : decode cJ15_getChar 41 = .ok (.iand, 1) := dk_126 (dk_at dksJ15_getChar_1 17 rfl rfl)
theorem dJ15_getChar_42 : decode cJ15_getChar 42 = .ok (.getstatic 59, 3) := dk_178 0 59 (dk_at dksJ15_getChar_1 18 rfl rfl)
theorem dJ15_getChar_45 : decode cJ15_getChar 45 = .ok (.ishl, 1) := dk_120 (dk_at dksJ15_getChar_1 21 rfl rfl)
theorem dJ15_getChar_46 : decode cJ15_getChar 46 = .ok (.aload_n 0, 1) := dk_42 (dk_at dksJ15_getChar_1 22 rfl rfl)
theorem dJ15_getChar_47 : decode cJ15_getChar 47 = .ok (.iload_n 1, 1) := dk_27 (dk_at dksJ15_getChar_1 23 rfl rfl)
theorem dJ15_getChar_48 : decode cJ15_getChar 48 = .ok (.baload, 1) := dk_51 (dk_at dksJ15_getChar_2 0 rfl rfl)
theorem dJ15_getChar_49 : decode cJ15_getChar 49 = .ok (.sipush 255, 3) := dk_17 0 255 (dk_at dksJ15_getChar_2 1 rfl rfl)
theorem dJ15_getChar_52 : decode cJ15_getChar 52 = .ok (.iand, 1) := dk_126 (dk_at dksJ15_getChar_2 4 rfl rfl)
theorem dJ15_getChar_53 : decode cJ15_getChar 53 = .ok (.getstatic 63, 3) := dk_178 0 63 (dk_at dksJ15_getChar_2 5 rfl rfl)
theorem dJ15_getChar_56 : decode cJ15_getChar 56 = .ok (.ishl, 1) := dk_120 (dk_at dksJ15_getChar_2 8 rfl rfl)
theorem dJ15_getChar_57 : decode cJ15_getChar 57 = .ok (.ior, 1) := dk_128 (dk_at dksJ15_getChar_2 9 rfl rfl)
theorem dJ15_getChar_58 : decode cJ15_getChar 58 = .ok (.i2c, 1) := dk_146 (dk_at dksJ15_getChar_2 10 rfl rfl)
theorem dJ15_getChar_59 : decode cJ15_getChar 59 = .ok (.ireturn, 1) := dk_172 (dk_at dksJ15_getChar_2 11 rfl rfl)
abbrev cJ15_coderFromArrayLen : ByteArray := prog_39_method_15_code
def yJ15_coderFromArrayLen : MethodName := ⟨RJ15, "coderFromArrayLen", "([BI)B"⟩
def dkwJ15_coderFromArrayLen_0 : List UInt8 := [27, 42, 190, 100, 16, 31, 124, 145, 172]
abbrev dktJ15_coderFromArrayLen_0 : List UInt8 := dkwJ15_coderFromArrayLen_0 ++ []
theorem dksJ15_coderFromArrayLen_0 : cJ15_coderFromArrayLen.data.toList.drop 0 = dktJ15_coderFromArrayLen_0 := by decide +kernel
theorem dJ15_coderFromArrayLen_0 : decode cJ15_coderFromArrayLen 0 = .ok (.iload_n 1, 1) := dk_27 (dk_at dksJ15_coderFromArrayLen_0 0 rfl rfl)
theorem dJ15_coderFromArrayLen_1 : decode cJ15_coderFromArrayLen 1 = .ok (.aload_n 0, 1) := dk_42 (dk_at dksJ15_coderFromArrayLen_0 1 rfl rfl)
theorem dJ15_coderFromArrayLen_2 : decode cJ15_coderFromArrayLen 2 = .ok (.arraylength, 1) := dk_190 (dk_at dksJ15_coderFromArrayLen_0 2 rfl rfl)
theorem dJ15_coderFromArrayLen_3 : decode cJ15_coderFromArrayLen 3 = .ok (.isub, 1) := dk_100 (dk_at dksJ15_coderFromArrayLen_0 3 rfl rfl)
theorem dJ15_coderFromArrayLen_4 : decode cJ15_coderFromArrayLen 4 = .ok (.bipush 31, 2) := dk_16 31 (dk_at dksJ15_coderFromArrayLen_0 4 rfl rfl)
theorem dJ15_coderFromArrayLen_6 : decode cJ15_coderFromArrayLen 6 = .ok (.iushr, 1) := dk_124 (dk_at dksJ15_coderFromArrayLen_0 6 rfl rfl)
theorem dJ15_coderFromArrayLen_7 : decode cJ15_coderFromArrayLen 7 = .ok (.i2b, 1) := dk_145 (dk_at dksJ15_coderFromArrayLen_0 7 rfl rfl)
theorem dJ15_coderFromArrayLen_8 : decode cJ15_coderFromArrayLen 8 = .ok (.ireturn, 1) := dk_172 (dk_at dksJ15_coderFromArrayLen_0 8 rfl rfl)
abbrev cJ15_compareTo : ByteArray := prog_39_method_29_code
def yJ15_compareTo : MethodName := ⟨RJ15, "compareTo", "([B[B)I"⟩
def dkwJ15_compareTo_0 : List UInt8 := [42, 184, 0, 48, 61, 43, 184, 0, 48, 62, 42, 43, 28, 29, 184, 0, 176, 172]
abbrev dktJ15_compareTo_0 : List UInt8 := dkwJ15_compareTo_0 ++ []
theorem dksJ15_compareTo_0 : cJ15_compareTo.data.toList.drop 0 = dktJ15_compareTo_0 := by decide +kernel
theorem dJ15_compareTo_0 : decode cJ15_compareTo 0 = .ok (.aload_n 0, 1) := dk_42 (dk_at dksJ15_compareTo_0 0 rfl rfl)
theorem dJ15_compareTo_1 : decode cJ15_compareTo 1 = .ok (.invokestatic 48, 3) := dk_184 0 48 (dk_at dksJ15_compareTo_0 1 rfl rfl)
theorem dJ15_compareTo_4 : decode cJ15_compareTo 4 = .ok (.istore_n 2, 1) := dk_61 (dk_at dksJ15_compareTo_0 4 rfl rfl)
theorem dJ15_compareTo_5 : decode cJ15_compareTo 5 = .ok (.aload_n 1, 1) := dk_43 (dk_at dksJ15_compareTo_0 5 rfl rfl)
theorem dJ15_compareTo_6 : decode cJ15_compareTo 6 = .ok (.invokestatic 48, 3) := dk_184 0 48 (dk_at dksJ15_compareTo_0 6 rfl rfl)
theorem dJ15_compareTo_9 : decode cJ15_compareTo 9 = .ok (.istore_n 3, 1) := dk_62 (dk_at dksJ15_compareTo_0 9 rfl rfl)
theorem dJ15_compareTo_10 : decode cJ15_compareTo 10 = .ok (.aload_n 0, 1) := dk_42 (dk_at dksJ15_compareTo_0 10 rfl rfl)
theorem dJ15_compareTo_11 : decode cJ15_compareTo 11 = .ok (.aload_n 1, 1) := dk_43 (dk_at dksJ15_compareTo_0 11 rfl rfl)
theorem dJ15_compareTo_12 : decode cJ15_compareTo 12 = .ok (.iload_n 2, 1) := dk_28 (dk_at dksJ15_compareTo_0 12 rfl rfl)
theorem dJ15_compareTo_13 : decode cJ15_compareTo 13 = .ok (.iload_n 3, 1) := dk_29 (dk_at dksJ15_compareTo_0 13 rfl rfl)
theorem dJ15_compareTo_14 : decode cJ15_compareTo 14 = .ok (.invokestatic 176, 3) := dk_184 0 176 (dk_at dksJ15_compareTo_0 14 rfl rfl)
theorem dJ15_compareTo_17 : decode cJ15_compareTo 17 = .ok (.ireturn, 1) := dk_172 (dk_at dksJ15_compareTo_0 17 rfl rfl)
abbrev cJ15_compareValues : ByteArray := prog_39_method_31_code
def yJ15_compareValues : MethodName := ⟨RJ15, "compareValues", "([B[BII)I"⟩
def dkwJ15_compareValues_2 : List UInt8 := [132, 5, 1, 167, 255, 217, 28, 29, 100, 172]
abbrev dktJ15_compareValues_2 : List UInt8 := dkwJ15_compareValues_2 ++ []
def dkwJ15_compareValues_1 : List UInt8 := [54, 6, 43, 21, 5, 184, 0, 71, 54, 7, 21, 6, 21, 7, 159, 0, 9, 21, 6, 21, 7, 100, 172]
abbrev dktJ15_compareValues_1 : List UInt8 := dkwJ15_compareValues_1 ++ dktJ15_compareValues_2
def dkwJ15_compareValues_0 : List UInt8 := [28, 29, 184, 0, 183, 54, 4, 3, 54, 5, 21, 5, 21, 4, 162, 0, 38, 42, 21, 5, 184, 0, 71]
abbrev dktJ15_compareValues_0 : List UInt8 := dkwJ15_compareValues_0 ++ dktJ15_compareValues_1
theorem dksJ15_compareValues_0 : cJ15_compareValues.data.toList.drop 0 = dktJ15_compareValues_0 := by decide +kernel
theorem dksJ15_compareValues_1 : cJ15_compareValues.data.toList.drop 23 = dktJ15_compareValues_1 := dk_seg dksJ15_compareValues_0 23 rfl rfl
theorem dksJ15_compareValues_2 : cJ15_compareValues.data.toList.drop 46 = dktJ15_compareValues_2 := dk_seg dksJ15_compareValues_1 23 rfl rfl
theorem dJ15_compareValues_0 : decode cJ15_compareValues 0 = .ok (.iload_n 2, 1) := dk_28 (dk_at dksJ15_compareValues_0 0 rfl rfl)
theorem dJ15_compareValues_1 : decode cJ15_compareValues 1 = .ok (.iload_n 3, 1) := dk_29 (dk_at dksJ15_compareValues_0 1 rfl rfl)
theorem dJ15_compareValues_2 : decode cJ15_compareValues 2 = .ok (.invokestatic 183, 3) := dk_184 0 183 (dk_at dksJ15_compareValues_0 2 rfl rfl)
theorem dJ15_compareValues_5 : decode cJ15_compareValues 5 = .ok (.istore 4, 2) := dk_54 4 (dk_at dksJ15_compareValues_0 5 rfl rfl)
theorem dJ15_compareValues_7 : decode cJ15_compareValues 7 = .ok (.iconst 0, 1) := dk_3 (dk_at dksJ15_compareValues_0 7 rfl rfl)
theorem dJ15_compareValues_8 : decode cJ15_compareValues 8 = .ok (.istore 5, 2) := dk_54 5 (dk_at dksJ15_compareValues_0 8 rfl rfl)
theorem dJ15_compareValues_10 : decode cJ15_compareValues 10 = .ok (.iload 5, 2) := dk_21 5 (dk_at dksJ15_compareValues_0 10 rfl rfl)
theorem dJ15_compareValues_12 : decode cJ15_compareValues 12 = .ok (.iload 4, 2) := dk_21 4 (dk_at dksJ15_compareValues_0 12 rfl rfl)
theorem dJ15_compareValues_14 : decode cJ15_compareValues 14 = .ok (.if_icmp .ge 38, 3) := dk_162 0 38 (dk_at dksJ15_compareValues_0 14 rfl rfl)
theorem dJ15_compareValues_17 : decode cJ15_compareValues 17 = .ok (.aload_n 0, 1) := dk_42 (dk_at dksJ15_compareValues_0 17 rfl rfl)
theorem dJ15_compareValues_18 : decode cJ15_compareValues 18 = .ok (.iload 5, 2) := dk_21 5 (dk_at dksJ15_compareValues_0 18 rfl rfl)
theorem dJ15_compareValues_20 : decode cJ15_compareValues 20 = .ok (.invokestatic 71, 3) := dk_184 0 71 (dk_at dksJ15_compareValues_0 20 rfl rfl)
theorem dJ15_compareValues_23 : decode cJ15_compareValues 23 = .ok (.istore 6, 2) := dk_54 6 (dk_at dksJ15_compareValues_1 0 rfl rfl)
theorem dJ15_compareValues_25 : decode cJ15_compareValues 25 = .ok (.aload_n 1, 1) := dk_43 (dk_at dksJ15_compareValues_1 2 rfl rfl)
theorem dJ15_compareValues_26 : decode cJ15_compareValues 26 = .ok (.iload 5, 2) := dk_21 5 (dk_at dksJ15_compareValues_1 3 rfl rfl)
theorem dJ15_compareValues_28 : decode cJ15_compareValues 28 = .ok (.invokestatic 71, 3) := dk_184 0 71 (dk_at dksJ15_compareValues_1 5 rfl rfl)
theorem dJ15_compareValues_31 : decode cJ15_compareValues 31 = .ok (.istore 7, 2) := dk_54 7 (dk_at dksJ15_compareValues_1 8 rfl rfl)
theorem dJ15_compareValues_33 : decode cJ15_compareValues 33 = .ok (.iload 6, 2) := dk_21 6 (dk_at dksJ15_compareValues_1 10 rfl rfl)
theorem dJ15_compareValues_35 : decode cJ15_compareValues 35 = .ok (.iload 7, 2) := dk_21 7 (dk_at dksJ15_compareValues_1 12 rfl rfl)
theorem dJ15_compareValues_37 : decode cJ15_compareValues 37 = .ok (.if_icmp .eq 9, 3) := dk_159 0 9 (dk_at dksJ15_compareValues_1 14 rfl rfl)
theorem dJ15_compareValues_40 : decode cJ15_compareValues 40 = .ok (.iload 6, 2) := dk_21 6 (dk_at dksJ15_compareValues_1 17 rfl rfl)
theorem dJ15_compareValues_42 : decode cJ15_compareValues 42 = .ok (.iload 7, 2) := dk_21 7 (dk_at dksJ15_compareValues_1 19 rfl rfl)
theorem dJ15_compareValues_44 : decode cJ15_compareValues 44 = .ok (.isub, 1) := dk_100 (dk_at dksJ15_compareValues_1 21 rfl rfl)
theorem dJ15_compareValues_45 : decode cJ15_compareValues 45 = .ok (.ireturn, 1) := dk_172 (dk_at dksJ15_compareValues_1 22 rfl rfl)
theorem dJ15_compareValues_46 : decode cJ15_compareValues 46 = .ok (.iinc 5 1, 3) := dk_132 5 1 (dk_at dksJ15_compareValues_2 0 rfl rfl)
theorem dJ15_compareValues_49 : decode cJ15_compareValues 49 = .ok (.goto (-39), 3) := dk_167 255 217 (dk_at dksJ15_compareValues_2 3 rfl rfl)
theorem dJ15_compareValues_52 : decode cJ15_compareValues 52 = .ok (.iload_n 2, 1) := dk_28 (dk_at dksJ15_compareValues_2 6 rfl rfl)
theorem dJ15_compareValues_53 : decode cJ15_compareValues 53 = .ok (.iload_n 3, 1) := dk_29 (dk_at dksJ15_compareValues_2 7 rfl rfl)
theorem dJ15_compareValues_54 : decode cJ15_compareValues 54 = .ok (.isub, 1) := dk_100 (dk_at dksJ15_compareValues_2 8 rfl rfl)
theorem dJ15_compareValues_55 : decode cJ15_compareValues 55 = .ok (.ireturn, 1) := dk_172 (dk_at dksJ15_compareValues_2 9 rfl rfl)
abbrev cJ15_compareToLatin1 : ByteArray := prog_39_method_32_code
def yJ15_compareToLatin1 : MethodName := ⟨RJ15, "compareToLatin1", "([B[B)I"⟩
def dkwJ15_compareToLatin1_0 : List UInt8 := [43, 42, 184, 0, 189, 116, 172]
abbrev dktJ15_compareToLatin1_0 : List UInt8 := dkwJ15_compareToLatin1_0 ++ []
theorem dksJ15_compareToLatin1_0 : cJ15_compareToLatin1.data.toList.drop 0 = dktJ15_compareToLatin1_0 := by decide +kernel
theorem dJ15_compareToLatin1_0 : decode cJ15_compareToLatin1 0 = .ok (.aload_n 1, 1) := dk_43 (dk_at dksJ15_compareToLatin1_0 0 rfl rfl)
theorem dJ15_compareToLatin1_1 : decode cJ15_compareToLatin1 1 = .ok (.aload_n 0, 1) := dk_42 (dk_at dksJ15_compareToLatin1_0 1 rfl rfl)
theorem dJ15_compareToLatin1_2 : decode cJ15_compareToLatin1 2 = .ok (.invokestatic 189, 3) := dk_184 0 189 (dk_at dksJ15_compareToLatin1_0 2 rfl rfl)
theorem dJ15_compareToLatin1_5 : decode cJ15_compareToLatin1 5 = .ok (.ineg, 1) := dk_116 (dk_at dksJ15_compareToLatin1_0 5 rfl rfl)
theorem dJ15_compareToLatin1_6 : decode cJ15_compareToLatin1 6 = .ok (.ireturn, 1) := dk_172 (dk_at dksJ15_compareToLatin1_0 6 rfl rfl)
abbrev cJ15_compareTo_2 : ByteArray := prog_39_method_30_code
def yJ15_compareTo_2 : MethodName := ⟨RJ15, "compareTo", "([B[BII)I"⟩
def dkwJ15_compareTo_2_0 : List UInt8 := [28, 42, 184, 0, 180, 29, 43, 184, 0, 180, 42, 43, 28, 29, 184, 0, 176, 172]
abbrev dktJ15_compareTo_2_0 : List UInt8 := dkwJ15_compareTo_2_0 ++ []
theorem dksJ15_compareTo_2_0 : cJ15_compareTo_2.data.toList.drop 0 = dktJ15_compareTo_2_0 := by decide +kernel
theorem dJ15_compareTo_2_0 : decode cJ15_compareTo_2 0 = .ok (.iload_n 2, 1) := dk_28 (dk_at dksJ15_compareTo_2_0 0 rfl rfl)
theorem dJ15_compareTo_2_1 : decode cJ15_compareTo_2 1 = .ok (.aload_n 0, 1) := dk_42 (dk_at dksJ15_compareTo_2_0 1 rfl rfl)
theorem dJ15_compareTo_2_2 : decode cJ15_compareTo_2 2 = .ok (.invokestatic 180, 3) := dk_184 0 180 (dk_at dksJ15_compareTo_2_0 2 rfl rfl)
theorem dJ15_compareTo_2_5 : decode cJ15_compareTo_2 5 = .ok (.iload_n 3, 1) := dk_29 (dk_at dksJ15_compareTo_2_0 5 rfl rfl)
theorem dJ15_compareTo_2_6 : decode cJ15_compareTo_2 6 = .ok (.aload_n 1, 1) := dk_43 (dk_at dksJ15_compareTo_2_0 6 rfl rfl)
theorem dJ15_compareTo_2_7 : decode cJ15_compareTo_2 7 = .ok (.invokestatic 180, 3) := dk_184 0 180 (dk_at dksJ15_compareTo_2_0 7 rfl rfl)
theorem dJ15_compareTo_2_10 : decode cJ15_compareTo_2 10 = .ok (.aload_n 0, 1) := dk_42 (dk_at dksJ15_compareTo_2_0 10 rfl rfl)
theorem dJ15_compareTo_2_11 : decode cJ15_compareTo_2 11 = .ok (.aload_n 1, 1) := dk_43 (dk_at dksJ15_compareTo_2_0 11 rfl rfl)
theorem dJ15_compareTo_2_12 : decode cJ15_compareTo_2 12 = .ok (.iload_n 2, 1) := dk_28 (dk_at dksJ15_compareTo_2_0 12 rfl rfl)
theorem dJ15_compareTo_2_13 : decode cJ15_compareTo_2 13 = .ok (.iload_n 3, 1) := dk_29 (dk_at dksJ15_compareTo_2_0 13 rfl rfl)
theorem dJ15_compareTo_2_14 : decode cJ15_compareTo_2 14 = .ok (.invokestatic 176, 3) := dk_184 0 176 (dk_at dksJ15_compareTo_2_0 14 rfl rfl)
theorem dJ15_compareTo_2_17 : decode cJ15_compareTo_2 17 = .ok (.ireturn, 1) := dk_172 (dk_at dksJ15_compareTo_2_0 17 rfl rfl)
abbrev cJ15_checkOffset : ByteArray := prog_39_method_92_code
def yJ15_checkOffset : MethodName := ⟨RJ15, "checkOffset", "(I[B)V"⟩
def dkwJ15_checkOffset_0 : List UInt8 := [26, 43, 184, 0, 48, 184, 1, 161, 177]
abbrev dktJ15_checkOffset_0 : List UInt8 := dkwJ15_checkOffset_0 ++ []
theorem dksJ15_checkOffset_0 : cJ15_checkOffset.data.toList.drop 0 = dktJ15_checkOffset_0 := by decide +kernel
theorem dJ15_checkOffset_0 : decode cJ15_checkOffset 0 = .ok (.iload_n 0, 1) := dk_26 (dk_at dksJ15_checkOffset_0 0 rfl rfl)
theorem dJ15_checkOffset_1 : decode cJ15_checkOffset 1 = .ok (.aload_n 1, 1) := dk_43 (dk_at dksJ15_checkOffset_0 1 rfl rfl)
theorem dJ15_checkOffset_2 : decode cJ15_checkOffset 2 = .ok (.invokestatic 48, 3) := dk_184 0 48 (dk_at dksJ15_checkOffset_0 2 rfl rfl)
theorem dJ15_checkOffset_5 : decode cJ15_checkOffset 5 = .ok (.invokestatic 417, 3) := dk_184 1 161 (dk_at dksJ15_checkOffset_0 5 rfl rfl)
theorem dJ15_checkOffset_8 : decode cJ15_checkOffset 8 = .ok (.return_, 1) := dk_177 (dk_at dksJ15_checkOffset_0 8 rfl rfl)
abbrev cJ15_compareToLatin1_2 : ByteArray := prog_39_method_33_code
def yJ15_compareToLatin1_2 : MethodName := ⟨RJ15, "compareToLatin1", "([B[BII)I"⟩
def dkwJ15_compareToLatin1_2_0 : List UInt8 := [43, 42, 29, 28, 184, 0, 193, 116, 172]
abbrev dktJ15_compareToLatin1_2_0 : List UInt8 := dkwJ15_compareToLatin1_2_0 ++ []
theorem dksJ15_compareToLatin1_2_0 : cJ15_compareToLatin1_2.data.toList.drop 0 = dktJ15_compareToLatin1_2_0 := by decide +kernel
theorem dJ15_compareToLatin1_2_0 : decode cJ15_compareToLatin1_2 0 = .ok (.aload_n 1, 1) := dk_43 (dk_at dksJ15_compareToLatin1_2_0 0 rfl rfl)
theorem dJ15_compareToLatin1_2_1 : decode cJ15_compareToLatin1_2 1 = .ok (.aload_n 0, 1) := dk_42 (dk_at dksJ15_compareToLatin1_2_0 1 rfl rfl)
theorem dJ15_compareToLatin1_2_2 : decode cJ15_compareToLatin1_2 2 = .ok (.iload_n 3, 1) := dk_29 (dk_at dksJ15_compareToLatin1_2_0 2 rfl rfl)
theorem dJ15_compareToLatin1_2_3 : decode cJ15_compareToLatin1_2 3 = .ok (.iload_n 2, 1) := dk_28 (dk_at dksJ15_compareToLatin1_2_0 3 rfl rfl)
theorem dJ15_compareToLatin1_2_4 : decode cJ15_compareToLatin1_2 4 = .ok (.invokestatic 193, 3) := dk_184 0 193 (dk_at dksJ15_compareToLatin1_2_0 4 rfl rfl)
theorem dJ15_compareToLatin1_2_7 : decode cJ15_compareToLatin1_2 7 = .ok (.ineg, 1) := dk_116 (dk_at dksJ15_compareToLatin1_2_0 7 rfl rfl)
theorem dJ15_compareToLatin1_2_8 : decode cJ15_compareToLatin1_2 8 = .ok (.ireturn, 1) := dk_172 (dk_at dksJ15_compareToLatin1_2_0 8 rfl rfl)
abbrev cJ15_hashCode : ByteArray := prog_39_method_39_code
def yJ15_hashCode : MethodName := ⟨RJ15, "hashCode", "([B)I"⟩
def dkwJ15_hashCode_2 : List UInt8 := [3, 167, 0, 22, 42, 3, 184, 0, 71, 167, 0, 14, 42, 3, 42, 190, 4, 122, 3, 8, 184, 0, 220, 172]
abbrev dktJ15_hashCode_2 : List UInt8 := dkwJ15_hashCode_2 ++ []
def dkwJ15_hashCode_1 : List UInt8 := [171, 0, 0, 0, 0, 38, 0, 0, 0, 2, 0, 0, 0, 0, 0, 0, 0, 26, 0, 0, 0, 2, 0, 0, 0, 30]
abbrev dktJ15_hashCode_1 : List UInt8 := dkwJ15_hashCode_1 ++ dktJ15_hashCode_2
def dkwJ15_hashCode_0 : List UInt8 := [42, 190]
abbrev dktJ15_hashCode_0 : List UInt8 := dkwJ15_hashCode_0 ++ dktJ15_hashCode_1
theorem dksJ15_hashCode_0 : cJ15_hashCode.data.toList.drop 0 = dktJ15_hashCode_0 := by decide +kernel
theorem dksJ15_hashCode_1 : cJ15_hashCode.data.toList.drop 2 = dktJ15_hashCode_1 := dk_seg dksJ15_hashCode_0 2 rfl rfl
theorem dksJ15_hashCode_2 : cJ15_hashCode.data.toList.drop 28 = dktJ15_hashCode_2 := dk_seg dksJ15_hashCode_1 26 rfl rfl
theorem dJ15_hashCode_0 : decode cJ15_hashCode 0 = .ok (.aload_n 0, 1) := dk_42 (dk_at dksJ15_hashCode_0 0 rfl rfl)
theorem dJ15_hashCode_1 : decode cJ15_hashCode 1 = .ok (.arraylength, 1) := dk_190 (dk_at dksJ15_hashCode_0 1 rfl rfl)
theorem dJ15_hashCode_2 : decode cJ15_hashCode 2 = .ok (.lookupswitch 38 #[(0, 26), (2, 30)], 26) := by decide +kernel
theorem dJ15_hashCode_28 : decode cJ15_hashCode 28 = .ok (.iconst 0, 1) := dk_3 (dk_at dksJ15_hashCode_2 0 rfl rfl)
theorem dJ15_hashCode_29 : decode cJ15_hashCode 29 = .ok (.goto 22, 3) := dk_167 0 22 (dk_at dksJ15_hashCode_2 1 rfl rfl)
theorem dJ15_hashCode_32 : decode cJ15_hashCode 32 = .ok (.aload_n 0, 1) := dk_42 (dk_at dksJ15_hashCode_2 4 rfl rfl)
theorem dJ15_hashCode_33 : decode cJ15_hashCode 33 = .ok (.iconst 0, 1) := dk_3 (dk_at dksJ15_hashCode_2 5 rfl rfl)
theorem dJ15_hashCode_34 : decode cJ15_hashCode 34 = .ok (.invokestatic 71, 3) := dk_184 0 71 (dk_at dksJ15_hashCode_2 6 rfl rfl)
theorem dJ15_hashCode_37 : decode cJ15_hashCode 37 = .ok (.goto 14, 3) := dk_167 0 14 (dk_at dksJ15_hashCode_2 9 rfl rfl)
theorem dJ15_hashCode_40 : decode cJ15_hashCode 40 = .ok (.aload_n 0, 1) := dk_42 (dk_at dksJ15_hashCode_2 12 rfl rfl)
theorem dJ15_hashCode_41 : decode cJ15_hashCode 41 = .ok (.iconst 0, 1) := dk_3 (dk_at dksJ15_hashCode_2 13 rfl rfl)
theorem dJ15_hashCode_42 : decode cJ15_hashCode 42 = .ok (.aload_n 0, 1) := dk_42 (dk_at dksJ15_hashCode_2 14 rfl rfl)
theorem dJ15_hashCode_43 : decode cJ15_hashCode 43 = .ok (.arraylength, 1) := dk_190 (dk_at dksJ15_hashCode_2 15 rfl rfl)
theorem dJ15_hashCode_44 : decode cJ15_hashCode 44 = .ok (.iconst 1, 1) := dk_4 (dk_at dksJ15_hashCode_2 16 rfl rfl)
theorem dJ15_hashCode_45 : decode cJ15_hashCode 45 = .ok (.ishr, 1) := dk_122 (dk_at dksJ15_hashCode_2 17 rfl rfl)
theorem dJ15_hashCode_46 : decode cJ15_hashCode 46 = .ok (.iconst 0, 1) := dk_3 (dk_at dksJ15_hashCode_2 18 rfl rfl)
theorem dJ15_hashCode_47 : decode cJ15_hashCode 47 = .ok (.iconst 5, 1) := dk_8 (dk_at dksJ15_hashCode_2 19 rfl rfl)
theorem dJ15_hashCode_48 : decode cJ15_hashCode 48 = .ok (.invokestatic 220, 3) := dk_184 0 220 (dk_at dksJ15_hashCode_2 20 rfl rfl)
theorem dJ15_hashCode_51 : decode cJ15_hashCode 51 = .ok (.ireturn, 1) := dk_172 (dk_at dksJ15_hashCode_2 23 rfl rfl)
abbrev cJ15_putCharSB : ByteArray := prog_39_method_71_code
def yJ15_putCharSB : MethodName := ⟨RJ15, "putCharSB", "([BII)V"⟩
def dkwJ15_putCharSB_0 : List UInt8 := [27, 42, 184, 0, 67, 42, 27, 28, 184, 0, 111, 177]
abbrev dktJ15_putCharSB_0 : List UInt8 := dkwJ15_putCharSB_0 ++ []
theorem dksJ15_putCharSB_0 : cJ15_putCharSB.data.toList.drop 0 = dktJ15_putCharSB_0 := by decide +kernel
theorem dJ15_putCharSB_0 : decode cJ15_putCharSB 0 = .ok (.iload_n 1, 1) := dk_27 (dk_at dksJ15_putCharSB_0 0 rfl rfl)
theorem dJ15_putCharSB_1 : decode cJ15_putCharSB 1 = .ok (.aload_n 0, 1) := dk_42 (dk_at dksJ15_putCharSB_0 1 rfl rfl)
theorem dJ15_putCharSB_2 : decode cJ15_putCharSB 2 = .ok (.invokestatic 67, 3) := dk_184 0 67 (dk_at dksJ15_putCharSB_0 2 rfl rfl)
theorem dJ15_putCharSB_5 : decode cJ15_putCharSB 5 = .ok (.aload_n 0, 1) := dk_42 (dk_at dksJ15_putCharSB_0 5 rfl rfl)
theorem dJ15_putCharSB_6 : decode cJ15_putCharSB 6 = .ok (.iload_n 1, 1) := dk_27 (dk_at dksJ15_putCharSB_0 6 rfl rfl)
theorem dJ15_putCharSB_7 : decode cJ15_putCharSB 7 = .ok (.iload_n 2, 1) := dk_28 (dk_at dksJ15_putCharSB_0 7 rfl rfl)
theorem dJ15_putCharSB_8 : decode cJ15_putCharSB 8 = .ok (.invokestatic 111, 3) := dk_184 0 111 (dk_at dksJ15_putCharSB_0 8 rfl rfl)
theorem dJ15_putCharSB_11 : decode cJ15_putCharSB 11 = .ok (.return_, 1) := dk_177 (dk_at dksJ15_putCharSB_0 11 rfl rfl)
abbrev cJ15_checkIndex : ByteArray := prog_39_method_91_code
def yJ15_checkIndex : MethodName := ⟨RJ15, "checkIndex", "(I[B)V"⟩
def dkwJ15_checkIndex_0 : List UInt8 := [26, 43, 184, 0, 48, 184, 1, 158, 177]
abbrev dktJ15_checkIndex_0 : List UInt8 := dkwJ15_checkIndex_0 ++ []
theorem dksJ15_checkIndex_0 : cJ15_checkIndex.data.toList.drop 0 = dktJ15_checkIndex_0 := by decide +kernel
theorem dJ15_checkIndex_0 : decode cJ15_checkIndex 0 = .ok (.iload_n 0, 1) := dk_26 (dk_at dksJ15_checkIndex_0 0 rfl rfl)
theorem dJ15_checkIndex_1 : decode cJ15_checkIndex 1 = .ok (.aload_n 1, 1) := dk_43 (dk_at dksJ15_checkIndex_0 1 rfl rfl)
theorem dJ15_checkIndex_2 : decode cJ15_checkIndex 2 = .ok (.invokestatic 48, 3) := dk_184 0 48 (dk_at dksJ15_checkIndex_0 2 rfl rfl)
theorem dJ15_checkIndex_5 : decode cJ15_checkIndex 5 = .ok (.invokestatic 414, 3) := dk_184 1 158 (dk_at dksJ15_checkIndex_0 5 rfl rfl)
theorem dJ15_checkIndex_8 : decode cJ15_checkIndex 8 = .ok (.return_, 1) := dk_177 (dk_at dksJ15_checkIndex_0 8 rfl rfl)
abbrev cJ15_fillNull : ByteArray := prog_39_method_70_code
def yJ15_fillNull : MethodName := ⟨RJ15, "fillNull", "([BII)V"⟩
def dkwJ15_fillNull_0 : List UInt8 := [42, 27, 4, 120, 28, 4, 120, 3, 184, 1, 124, 177]
abbrev dktJ15_fillNull_0 : List UInt8 := dkwJ15_fillNull_0 ++ []
theorem dksJ15_fillNull_0 : cJ15_fillNull.data.toList.drop 0 = dktJ15_fillNull_0 := by decide +kernel
theorem dJ15_fillNull_0 : decode cJ15_fillNull 0 = .ok (.aload_n 0, 1) := dk_42 (dk_at dksJ15_fillNull_0 0 rfl rfl)
theorem dJ15_fillNull_1 : decode cJ15_fillNull 1 = .ok (.iload_n 1, 1) := dk_27 (dk_at dksJ15_fillNull_0 1 rfl rfl)
theorem dJ15_fillNull_2 : decode cJ15_fillNull 2 = .ok (.iconst 1, 1) := dk_4 (dk_at dksJ15_fillNull_0 2 rfl rfl)
theorem dJ15_fillNull_3 : decode cJ15_fillNull 3 = .ok (.ishl, 1) := dk_120 (dk_at dksJ15_fillNull_0 3 rfl rfl)
theorem dJ15_fillNull_4 : decode cJ15_fillNull 4 = .ok (.iload_n 2, 1) := dk_28 (dk_at dksJ15_fillNull_0 4 rfl rfl)
theorem dJ15_fillNull_5 : decode cJ15_fillNull 5 = .ok (.iconst 1, 1) := dk_4 (dk_at dksJ15_fillNull_0 5 rfl rfl)
theorem dJ15_fillNull_6 : decode cJ15_fillNull 6 = .ok (.ishl, 1) := dk_120 (dk_at dksJ15_fillNull_0 6 rfl rfl)
theorem dJ15_fillNull_7 : decode cJ15_fillNull 7 = .ok (.iconst 0, 1) := dk_3 (dk_at dksJ15_fillNull_0 7 rfl rfl)
theorem dJ15_fillNull_8 : decode cJ15_fillNull 8 = .ok (.invokestatic 380, 3) := dk_184 1 124 (dk_at dksJ15_fillNull_0 8 rfl rfl)
theorem dJ15_fillNull_11 : decode cJ15_fillNull 11 = .ok (.return_, 1) := dk_177 (dk_at dksJ15_fillNull_0 11 rfl rfl)
abbrev cJ15_charAt : ByteArray := prog_39_method_83_code
def yJ15_charAt : MethodName := ⟨RJ15, "charAt", "([BI)C"⟩
def dkwJ15_charAt_0 : List UInt8 := [27, 42, 184, 0, 67, 42, 27, 184, 0, 71, 172]
abbrev dktJ15_charAt_0 : List UInt8 := dkwJ15_charAt_0 ++ []
theorem dksJ15_charAt_0 : cJ15_charAt.data.toList.drop 0 = dktJ15_charAt_0 := by decide +kernel
theorem dJ15_charAt_0 : decode cJ15_charAt 0 = .ok (.iload_n 1, 1) := dk_27 (dk_at dksJ15_charAt_0 0 rfl rfl)
theorem dJ15_charAt_1 : decode cJ15_charAt 1 = .ok (.aload_n 0, 1) := dk_42 (dk_at dksJ15_charAt_0 1 rfl rfl)
theorem dJ15_charAt_2 : decode cJ15_charAt 2 = .ok (.invokestatic 67, 3) := dk_184 0 67 (dk_at dksJ15_charAt_0 2 rfl rfl)
theorem dJ15_charAt_5 : decode cJ15_charAt 5 = .ok (.aload_n 0, 1) := dk_42 (dk_at dksJ15_charAt_0 5 rfl rfl)
theorem dJ15_charAt_6 : decode cJ15_charAt 6 = .ok (.iload_n 1, 1) := dk_27 (dk_at dksJ15_charAt_0 6 rfl rfl)
theorem dJ15_charAt_7 : decode cJ15_charAt 7 = .ok (.invokestatic 71, 3) := dk_184 0 71 (dk_at dksJ15_charAt_0 7 rfl rfl)
theorem dJ15_charAt_10 : decode cJ15_charAt 10 = .ok (.ireturn, 1) := dk_172 (dk_at dksJ15_charAt_0 10 rfl rfl)
abbrev cJ15_newString : ByteArray := prog_39_method_69_code
def yJ15_newString : MethodName := ⟨RJ15, "newString", "([BII)Ljava/lang/String;"⟩
def dkwJ15_newString_2 : List UInt8 := [42, 27, 4, 120, 29, 4, 120, 184, 0, 126, 4, 183, 1, 7, 176]
abbrev dktJ15_newString_2 : List UInt8 := dkwJ15_newString_2 ++ []
def dkwJ15_newString_1 : List UInt8 := [184, 1, 3, 54, 4, 187, 0, 3, 89, 45, 21, 4, 183, 1, 7, 176, 27, 28, 96, 62, 187, 0, 3, 89]
abbrev dktJ15_newString_1 : List UInt8 := dkwJ15_newString_1 ++ dktJ15_newString_2
def dkwJ15_newString_0 : List UInt8 := [28, 154, 0, 7, 19, 1, 39, 176, 178, 0, 251, 153, 0, 28, 42, 27, 28, 184, 1, 1, 78, 45, 28]
abbrev dktJ15_newString_0 : List UInt8 := dkwJ15_newString_0 ++ dktJ15_newString_1
theorem dksJ15_newString_0 : cJ15_newString.data.toList.drop 0 = dktJ15_newString_0 := by decide +kernel
theorem dksJ15_newString_1 : cJ15_newString.data.toList.drop 23 = dktJ15_newString_1 := dk_seg dksJ15_newString_0 23 rfl rfl
theorem dksJ15_newString_2 : cJ15_newString.data.toList.drop 47 = dktJ15_newString_2 := dk_seg dksJ15_newString_1 24 rfl rfl
theorem dJ15_newString_0 : decode cJ15_newString 0 = .ok (.iload_n 2, 1) := dk_28 (dk_at dksJ15_newString_0 0 rfl rfl)
theorem dJ15_newString_1 : decode cJ15_newString 1 = .ok (.ifCond .ne 7, 3) := dk_154 0 7 (dk_at dksJ15_newString_0 1 rfl rfl)
theorem dJ15_newString_4 : decode cJ15_newString 4 = .ok (.ldc_w 295, 3) := dk_19 1 39 (dk_at dksJ15_newString_0 4 rfl rfl)
theorem dJ15_newString_7 : decode cJ15_newString 7 = .ok (.areturn, 1) := dk_176 (dk_at dksJ15_newString_0 7 rfl rfl)
theorem dJ15_newString_8 : decode cJ15_newString 8 = .ok (.getstatic 251, 3) := dk_178 0 251 (dk_at dksJ15_newString_0 8 rfl rfl)
theorem dJ15_newString_11 : decode cJ15_newString 11 = .ok (.ifCond .eq 28, 3) := dk_153 0 28 (dk_at dksJ15_newString_0 11 rfl rfl)
theorem dJ15_newString_14 : decode cJ15_newString 14 = .ok (.aload_n 0, 1) := dk_42 (dk_at dksJ15_newString_0 14 rfl rfl)
theorem dJ15_newString_15 : decode cJ15_newString 15 = .ok (.iload_n 1, 1) := dk_27 (dk_at dksJ15_newString_0 15 rfl rfl)
theorem dJ15_newString_16 : decode cJ15_newString 16 = .ok (.iload_n 2, 1) := dk_28 (dk_at dksJ15_newString_0 16 rfl rfl)
theorem dJ15_newString_17 : decode cJ15_newString 17 = .ok (.invokestatic 257, 3) := dk_184 1 1 (dk_at dksJ15_newString_0 17 rfl rfl)
theorem dJ15_newString_20 : decode cJ15_newString 20 = .ok (.astore_n 3, 1) := dk_78 (dk_at dksJ15_newString_0 20 rfl rfl)
theorem dJ15_newString_21 : decode cJ15_newString 21 = .ok (.aload_n 3, 1) := dk_45 (dk_at dksJ15_newString_0 21 rfl rfl)
theorem dJ15_newString_22 : decode cJ15_newString 22 = .ok (.iload_n 2, 1) := dk_28 (dk_at dksJ15_newString_0 22 rfl rfl)
theorem dJ15_newString_23 : decode cJ15_newString 23 = .ok (.invokestatic 259, 3) := dk_184 1 3 (dk_at dksJ15_newString_1 0 rfl rfl)
theorem dJ15_newString_26 : decode cJ15_newString 26 = .ok (.istore 4, 2) := dk_54 4 (dk_at dksJ15_newString_1 3 rfl rfl)
theorem dJ15_newString_28 : decode cJ15_newString 28 = .ok (.new 3, 3) := dk_187 0 3 (dk_at dksJ15_newString_1 5 rfl rfl)
theorem dJ15_newString_31 : decode cJ15_newString 31 = .ok (.dup, 1) := dk_89 (dk_at dksJ15_newString_1 8 rfl rfl)
theorem dJ15_newString_32 : decode cJ15_newString 32 = .ok (.aload_n 3, 1) := dk_45 (dk_at dksJ15_newString_1 9 rfl rfl)
theorem dJ15_newString_33 : decode cJ15_newString 33 = .ok (.iload 4, 2) := dk_21 4 (dk_at dksJ15_newString_1 10 rfl rfl)
theorem dJ15_newString_35 : decode cJ15_newString 35 = .ok (.invokespecial 263, 3) := dk_183 1 7 (dk_at dksJ15_newString_1 12 rfl rfl)
theorem dJ15_newString_38 : decode cJ15_newString 38 = .ok (.areturn, 1) := dk_176 (dk_at dksJ15_newString_1 15 rfl rfl)
theorem dJ15_newString_39 : decode cJ15_newString 39 = .ok (.iload_n 1, 1) := dk_27 (dk_at dksJ15_newString_1 16 rfl rfl)
theorem dJ15_newString_40 : decode cJ15_newString 40 = .ok (.iload_n 2, 1) := dk_28 (dk_at dksJ15_newString_1 17 rfl rfl)
theorem dJ15_newString_41 : decode cJ15_newString 41 = .ok (.iadd, 1) := dk_96 (dk_at dksJ15_newString_1 18 rfl rfl)
theorem dJ15_newString_42 : decode cJ15_newString 42 = .ok (.istore_n 3, 1) := dk_62 (dk_at dksJ15_newString_1 19 rfl rfl)
theorem dJ15_newString_43 : decode cJ15_newString 43 = .ok (.new 3, 3) := dk_187 0 3 (dk_at dksJ15_newString_1 20 rfl rfl)
theorem dJ15_newString_46 : decode cJ15_newString 46 = .ok (.dup, 1) := dk_89 (dk_at dksJ15_newString_1 23 rfl rfl)
theorem dJ15_newString_47 : decode cJ15_newString 47 = .ok (.aload_n 0, 1) := dk_42 (dk_at dksJ15_newString_2 0 rfl rfl)
theorem dJ15_newString_48 : decode cJ15_newString 48 = .ok (.iload_n 1, 1) := dk_27 (dk_at dksJ15_newString_2 1 rfl rfl)
theorem dJ15_newString_49 : decode cJ15_newString 49 = .ok (.iconst 1, 1) := dk_4 (dk_at dksJ15_newString_2 2 rfl rfl)
theorem dJ15_newString_50 : decode cJ15_newString 50 = .ok (.ishl, 1) := dk_120 (dk_at dksJ15_newString_2 3 rfl rfl)
theorem dJ15_newString_51 : decode cJ15_newString 51 = .ok (.iload_n 3, 1) := dk_29 (dk_at dksJ15_newString_2 4 rfl rfl)
theorem dJ15_newString_52 : decode cJ15_newString 52 = .ok (.iconst 1, 1) := dk_4 (dk_at dksJ15_newString_2 5 rfl rfl)
theorem dJ15_newString_53 : decode cJ15_newString 53 = .ok (.ishl, 1) := dk_120 (dk_at dksJ15_newString_2 6 rfl rfl)
theorem dJ15_newString_54 : decode cJ15_newString 54 = .ok (.invokestatic 126, 3) := dk_184 0 126 (dk_at dksJ15_newString_2 7 rfl rfl)
theorem dJ15_newString_57 : decode cJ15_newString 57 = .ok (.iconst 1, 1) := dk_4 (dk_at dksJ15_newString_2 10 rfl rfl)
theorem dJ15_newString_58 : decode cJ15_newString 58 = .ok (.invokespecial 263, 3) := dk_183 1 7 (dk_at dksJ15_newString_2 11 rfl rfl)
theorem dJ15_newString_61 : decode cJ15_newString 61 = .ok (.areturn, 1) := dk_176 (dk_at dksJ15_newString_2 14 rfl rfl)
abbrev cJ16_equals : ByteArray := prog_73_method_2_code
def yJ16_equals : MethodName := ⟨RJ16, "equals", "(Ljava/lang/Object;Ljava/lang/Object;)Z"⟩
def dkwJ16_equals_0 : List UInt8 := [42, 43, 165, 0, 15, 42, 198, 0, 15, 42, 43, 182, 0, 14, 153, 0, 7, 4, 167, 0, 4, 3, 172]
abbrev dktJ16_equals_0 : List UInt8 := dkwJ16_equals_0 ++ []
theorem dksJ16_equals_0 : cJ16_equals.data.toList.drop 0 = dktJ16_equals_0 := by decide +kernel
theorem dJ16_equals_0 : decode cJ16_equals 0 = .ok (.aload_n 0, 1) := dk_42 (dk_at dksJ16_equals_0 0 rfl rfl)
theorem dJ16_equals_1 : decode cJ16_equals 1 = .ok (.aload_n 1, 1) := dk_43 (dk_at dksJ16_equals_0 1 rfl rfl)
theorem dJ16_equals_2 : decode cJ16_equals 2 = .ok (.if_acmp .eq 15, 3) := dk_165 0 15 (dk_at dksJ16_equals_0 2 rfl rfl)
theorem dJ16_equals_5 : decode cJ16_equals 5 = .ok (.aload_n 0, 1) := dk_42 (dk_at dksJ16_equals_0 5 rfl rfl)
theorem dJ16_equals_6 : decode cJ16_equals 6 = .ok (.ifnull 15, 3) := dk_198 0 15 (dk_at dksJ16_equals_0 6 rfl rfl)
theorem dJ16_equals_9 : decode cJ16_equals 9 = .ok (.aload_n 0, 1) := dk_42 (dk_at dksJ16_equals_0 9 rfl rfl)
theorem dJ16_equals_10 : decode cJ16_equals 10 = .ok (.aload_n 1, 1) := dk_43 (dk_at dksJ16_equals_0 10 rfl rfl)
theorem dJ16_equals_11 : decode cJ16_equals 11 = .ok (.invokevirtual 14, 3) := dk_182 0 14 (dk_at dksJ16_equals_0 11 rfl rfl)
theorem dJ16_equals_14 : decode cJ16_equals 14 = .ok (.ifCond .eq 7, 3) := dk_153 0 7 (dk_at dksJ16_equals_0 14 rfl rfl)
theorem dJ16_equals_17 : decode cJ16_equals 17 = .ok (.iconst 1, 1) := dk_4 (dk_at dksJ16_equals_0 17 rfl rfl)
theorem dJ16_equals_18 : decode cJ16_equals 18 = .ok (.goto 4, 3) := dk_167 0 4 (dk_at dksJ16_equals_0 18 rfl rfl)
theorem dJ16_equals_21 : decode cJ16_equals 21 = .ok (.iconst 0, 1) := dk_3 (dk_at dksJ16_equals_0 21 rfl rfl)
theorem dJ16_equals_22 : decode cJ16_equals 22 = .ok (.ireturn, 1) := dk_172 (dk_at dksJ16_equals_0 22 rfl rfl)
abbrev cJ16_checkIndex : ByteArray := prog_73_method_17_code
def yJ16_checkIndex : MethodName := ⟨RJ16, "checkIndex", "(II)I"⟩
def dkwJ16_checkIndex_0 : List UInt8 := [26, 27, 1, 184, 0, 105, 172]
abbrev dktJ16_checkIndex_0 : List UInt8 := dkwJ16_checkIndex_0 ++ []
theorem dksJ16_checkIndex_0 : cJ16_checkIndex.data.toList.drop 0 = dktJ16_checkIndex_0 := by decide +kernel
theorem dJ16_checkIndex_0 : decode cJ16_checkIndex 0 = .ok (.iload_n 0, 1) := dk_26 (dk_at dksJ16_checkIndex_0 0 rfl rfl)
theorem dJ16_checkIndex_1 : decode cJ16_checkIndex 1 = .ok (.iload_n 1, 1) := dk_27 (dk_at dksJ16_checkIndex_0 1 rfl rfl)
theorem dJ16_checkIndex_2 : decode cJ16_checkIndex 2 = .ok (.aconst_null, 1) := dk_1 (dk_at dksJ16_checkIndex_0 2 rfl rfl)
theorem dJ16_checkIndex_3 : decode cJ16_checkIndex 3 = .ok (.invokestatic 105, 3) := dk_184 0 105 (dk_at dksJ16_checkIndex_0 3 rfl rfl)
theorem dJ16_checkIndex_6 : decode cJ16_checkIndex 6 = .ok (.ireturn, 1) := dk_172 (dk_at dksJ16_checkIndex_0 6 rfl rfl)
abbrev cJ16_requireNonNull : ByteArray := prog_73_method_10_code
def yJ16_requireNonNull : MethodName := ⟨RJ16, "requireNonNull", "(Ljava/lang/Object;)Ljava/lang/Object;"⟩
def dkwJ16_requireNonNull_0 : List UInt8 := [42, 199, 0, 11, 187, 0, 84, 89, 183, 0, 86, 191, 42, 176]
abbrev dktJ16_requireNonNull_0 : List UInt8 := dkwJ16_requireNonNull_0 ++ []
theorem dksJ16_requireNonNull_0 : cJ16_requireNonNull.data.toList.drop 0 = dktJ16_requireNonNull_0 := by decide +kernel
theorem dJ16_requireNonNull_0 : decode cJ16_requireNonNull 0 = .ok (.aload_n 0, 1) := dk_42 (dk_at dksJ16_requireNonNull_0 0 rfl rfl)
theorem dJ16_requireNonNull_1 : decode cJ16_requireNonNull 1 = .ok (.ifnonnull 11, 3) := dk_199 0 11 (dk_at dksJ16_requireNonNull_0 1 rfl rfl)
theorem dJ16_requireNonNull_4 : decode cJ16_requireNonNull 4 = .ok (.new 84, 3) := dk_187 0 84 (dk_at dksJ16_requireNonNull_0 4 rfl rfl)
theorem dJ16_requireNonNull_7 : decode cJ16_requireNonNull 7 = .ok (.dup, 1) := dk_89 (dk_at dksJ16_requireNonNull_0 7 rfl rfl)
theorem dJ16_requireNonNull_8 : decode cJ16_requireNonNull 8 = .ok (.invokespecial 86, 3) := dk_183 0 86 (dk_at dksJ16_requireNonNull_0 8 rfl rfl)
theorem dJ16_requireNonNull_11 : decode cJ16_requireNonNull 11 = .ok (.athrow, 1) := dk_191 (dk_at dksJ16_requireNonNull_0 11 rfl rfl)
theorem dJ16_requireNonNull_12 : decode cJ16_requireNonNull 12 = .ok (.aload_n 0, 1) := dk_42 (dk_at dksJ16_requireNonNull_0 12 rfl rfl)
theorem dJ16_requireNonNull_13 : decode cJ16_requireNonNull 13 = .ok (.areturn, 1) := dk_176 (dk_at dksJ16_requireNonNull_0 13 rfl rfl)
abbrev cJ17_equals : ByteArray := prog_38_method_13_code
def yJ17_equals : MethodName := ⟨RJ17, "equals", "([B[B)Z"⟩
def dkwJ17_equals_1 : List UInt8 := [3, 172, 132, 2, 1, 167, 255, 236, 4, 172, 3, 172]
abbrev dktJ17_equals_1 : List UInt8 := dkwJ17_equals_1 ++ []
def dkwJ17_equals_0 : List UInt8 := [42, 190, 43, 190, 160, 0, 30, 3, 61, 28, 42, 190, 162, 0, 20, 42, 28, 51, 43, 28, 51, 159, 0, 5]
abbrev dktJ17_equals_0 : List UInt8 := dkwJ17_equals_0 ++ dktJ17_equals_1
theorem dksJ17_equals_0 : cJ17_equals.data.toList.drop 0 = dktJ17_equals_0 := by decide +kernel
theorem dksJ17_equals_1 : cJ17_equals.data.toList.drop 24 = dktJ17_equals_1 := dk_seg dksJ17_equals_0 24 rfl rfl
theorem dJ17_equals_0 : decode cJ17_equals 0 = .ok (.aload_n 0, 1) := dk_42 (dk_at dksJ17_equals_0 0 rfl rfl)
theorem dJ17_equals_1 : decode cJ17_equals 1 = .ok (.arraylength, 1) := dk_190 (dk_at dksJ17_equals_0 1 rfl rfl)
theorem dJ17_equals_2 : decode cJ17_equals 2 = .ok (.aload_n 1, 1) := dk_43 (dk_at dksJ17_equals_0 2 rfl rfl)
theorem dJ17_equals_3 : decode cJ17_equals 3 = .ok (.arraylength, 1) := dk_190 (dk_at dksJ17_equals_0 3 rfl rfl)
theorem dJ17_equals_4 : decode cJ17_equals 4 = .ok (.if_icmp .ne 30, 3) := dk_160 0 30 (dk_at dksJ17_equals_0 4 rfl rfl)
theorem dJ17_equals_7 : decode cJ17_equals 7 = .ok (.iconst 0, 1) := dk_3 (dk_at dksJ17_equals_0 7 rfl rfl)
theorem dJ17_equals_8 : decode cJ17_equals 8 = .ok (.istore_n 2, 1) := dk_61 (dk_at dksJ17_equals_0 8 rfl rfl)
theorem dJ17_equals_9 : decode cJ17_equals 9 = .ok (.iload_n 2, 1) := dk_28 (dk_at dksJ17_equals_0 9 rfl rfl)
theorem dJ17_equals_10 : decode cJ17_equals 10 = .ok (.aload_n 0, 1) := dk_42 (dk_at dksJ17_equals_0 10 rfl rfl)
theorem dJ17_equals_11 : decode cJ17_equals 11 = .ok (.arraylength, 1) := dk_190 (dk_at dksJ17_equals_0 11 rfl rfl)
theorem dJ17_equals_12 : decode cJ17_equals 12 = .ok (.if_icmp .ge 20, 3) := dk_162 0 20 (dk_at dksJ17_equals_0 12 rfl rfl)
theorem dJ17_equals_15 : decode cJ17_equals 15 = .ok (.aload_n 0, 1) := dk_42 (dk_at dksJ17_equals_0 15 rfl rfl)
theorem dJ17_equals_16 : decode cJ17_equals 16 = .ok (.iload_n 2, 1) := dk_28 (dk_at dksJ17_equals_0 16 rfl rfl)
theorem dJ17_equals_17 : decode cJ17_equals 17 = .ok (.baload, 1) := dk_51 (dk_at dksJ17_equals_0 17 rfl rfl)
theorem dJ17_equals_18 : decode cJ17_equals 18 = .ok (.aload_n 1, 1) := dk_43 (dk_at dksJ17_equals_0 18 rfl rfl)
theorem dJ17_equals_19 : decode cJ17_equals 19 = .ok (.iload_n 2, 1) := dk_28 (dk_at dksJ17_equals_0 19 rfl rfl)
theorem dJ17_equals_20 : decode cJ17_equals 20 = .ok (.baload, 1) := dk_51 (dk_at dksJ17_equals_0 20 rfl rfl)
theorem dJ17_equals_21 : decode cJ17_equals 21 = .ok (.if_icmp .eq 5, 3) := dk_159 0 5 (dk_at dksJ17_equals_0 21 rfl rfl)
theorem dJ17_equals_24 : decode cJ17_equals 24 = .ok (.iconst 0, 1) := dk_3 (dk_at dksJ17_equals_1 0 rfl rfl)
theorem dJ17_equals_25 : decode cJ17_equals 25 = .ok (.ireturn, 1) := dk_172 (dk_at dksJ17_equals_1 1 rfl rfl)
theorem dJ17_equals_26 : decode cJ17_equals 26 = .ok (.iinc 2 1, 3) := dk_132 2 1 (dk_at dksJ17_equals_1 2 rfl rfl)
theorem dJ17_equals_29 : decode cJ17_equals 29 = .ok (.goto (-20), 3) := dk_167 255 236 (dk_at dksJ17_equals_1 5 rfl rfl)
theorem dJ17_equals_32 : decode cJ17_equals 32 = .ok (.iconst 1, 1) := dk_4 (dk_at dksJ17_equals_1 8 rfl rfl)
theorem dJ17_equals_33 : decode cJ17_equals 33 = .ok (.ireturn, 1) := dk_172 (dk_at dksJ17_equals_1 9 rfl rfl)
theorem dJ17_equals_34 : decode cJ17_equals 34 = .ok (.iconst 0, 1) := dk_3 (dk_at dksJ17_equals_1 10 rfl rfl)
theorem dJ17_equals_35 : decode cJ17_equals 35 = .ok (.ireturn, 1) := dk_172 (dk_at dksJ17_equals_1 11 rfl rfl)
abbrev cJ17_inflate : ByteArray := prog_38_method_50_code
def yJ17_inflate : MethodName := ⟨RJ17, "inflate", "([BI[BII)V"⟩
def dkwJ17_inflate_0 : List UInt8 := [42, 27, 44, 29, 21, 4, 184, 0, 240, 177]
abbrev dktJ17_inflate_0 : List UInt8 := dkwJ17_inflate_0 ++ []
theorem dksJ17_inflate_0 : cJ17_inflate.data.toList.drop 0 = dktJ17_inflate_0 := by decide +kernel
theorem dJ17_inflate_0 : decode cJ17_inflate 0 = .ok (.aload_n 0, 1) := dk_42 (dk_at dksJ17_inflate_0 0 rfl rfl)
theorem dJ17_inflate_1 : decode cJ17_inflate 1 = .ok (.iload_n 1, 1) := dk_27 (dk_at dksJ17_inflate_0 1 rfl rfl)
theorem dJ17_inflate_2 : decode cJ17_inflate 2 = .ok (.aload_n 2, 1) := dk_44 (dk_at dksJ17_inflate_0 2 rfl rfl)
theorem dJ17_inflate_3 : decode cJ17_inflate 3 = .ok (.iload_n 3, 1) := dk_29 (dk_at dksJ17_inflate_0 3 rfl rfl)
theorem dJ17_inflate_4 : decode cJ17_inflate 4 = .ok (.iload 4, 2) := dk_21 4 (dk_at dksJ17_inflate_0 4 rfl rfl)
theorem dJ17_inflate_6 : decode cJ17_inflate 6 = .ok (.invokestatic 240, 3) := dk_184 0 240 (dk_at dksJ17_inflate_0 6 rfl rfl)
theorem dJ17_inflate_9 : decode cJ17_inflate 9 = .ok (.return_, 1) := dk_177 (dk_at dksJ17_inflate_0 9 rfl rfl)
abbrev cJ17_compareTo : ByteArray := prog_38_method_14_code
def yJ17_compareTo : MethodName := ⟨RJ17, "compareTo", "([B[B)I"⟩
def dkwJ17_compareTo_0 : List UInt8 := [42, 190, 61, 43, 190, 62, 42, 43, 28, 29, 184, 0, 34, 172]
abbrev dktJ17_compareTo_0 : List UInt8 := dkwJ17_compareTo_0 ++ []
theorem dksJ17_compareTo_0 : cJ17_compareTo.data.toList.drop 0 = dktJ17_compareTo_0 := by decide +kernel
theorem dJ17_compareTo_0 : decode cJ17_compareTo 0 = .ok (.aload_n 0, 1) := dk_42 (dk_at dksJ17_compareTo_0 0 rfl rfl)
theorem dJ17_compareTo_1 : decode cJ17_compareTo 1 = .ok (.arraylength, 1) := dk_190 (dk_at dksJ17_compareTo_0 1 rfl rfl)
theorem dJ17_compareTo_2 : decode cJ17_compareTo 2 = .ok (.istore_n 2, 1) := dk_61 (dk_at dksJ17_compareTo_0 2 rfl rfl)
theorem dJ17_compareTo_3 : decode cJ17_compareTo 3 = .ok (.aload_n 1, 1) := dk_43 (dk_at dksJ17_compareTo_0 3 rfl rfl)
theorem dJ17_compareTo_4 : decode cJ17_compareTo 4 = .ok (.arraylength, 1) := dk_190 (dk_at dksJ17_compareTo_0 4 rfl rfl)
theorem dJ17_compareTo_5 : decode cJ17_compareTo 5 = .ok (.istore_n 3, 1) := dk_62 (dk_at dksJ17_compareTo_0 5 rfl rfl)
theorem dJ17_compareTo_6 : decode cJ17_compareTo 6 = .ok (.aload_n 0, 1) := dk_42 (dk_at dksJ17_compareTo_0 6 rfl rfl)
theorem dJ17_compareTo_7 : decode cJ17_compareTo 7 = .ok (.aload_n 1, 1) := dk_43 (dk_at dksJ17_compareTo_0 7 rfl rfl)
theorem dJ17_compareTo_8 : decode cJ17_compareTo 8 = .ok (.iload_n 2, 1) := dk_28 (dk_at dksJ17_compareTo_0 8 rfl rfl)
theorem dJ17_compareTo_9 : decode cJ17_compareTo 9 = .ok (.iload_n 3, 1) := dk_29 (dk_at dksJ17_compareTo_0 9 rfl rfl)
theorem dJ17_compareTo_10 : decode cJ17_compareTo 10 = .ok (.invokestatic 34, 3) := dk_184 0 34 (dk_at dksJ17_compareTo_0 10 rfl rfl)
theorem dJ17_compareTo_13 : decode cJ17_compareTo 13 = .ok (.ireturn, 1) := dk_172 (dk_at dksJ17_compareTo_0 13 rfl rfl)
abbrev cJ17_compareTo_2 : ByteArray := prog_38_method_15_code
def yJ17_compareTo_2 : MethodName := ⟨RJ17, "compareTo", "([B[BII)I"⟩
def dkwJ17_compareTo_2_1 : List UInt8 := [167, 0, 16, 42, 21, 5, 184, 0, 50, 43, 21, 5, 184, 0, 50, 100, 172]
abbrev dktJ17_compareTo_2_1 : List UInt8 := dkwJ17_compareTo_2_1 ++ []
def dkwJ17_compareTo_2_0 : List UInt8 := [28, 29, 184, 0, 38, 54, 4, 42, 43, 21, 4, 184, 0, 44, 54, 5, 21, 5, 156, 0, 9, 28, 29, 100]
abbrev dktJ17_compareTo_2_0 : List UInt8 := dkwJ17_compareTo_2_0 ++ dktJ17_compareTo_2_1
theorem dksJ17_compareTo_2_0 : cJ17_compareTo_2.data.toList.drop 0 = dktJ17_compareTo_2_0 := by decide +kernel
theorem dksJ17_compareTo_2_1 : cJ17_compareTo_2.data.toList.drop 24 = dktJ17_compareTo_2_1 := dk_seg dksJ17_compareTo_2_0 24 rfl rfl
theorem dJ17_compareTo_2_0 : decode cJ17_compareTo_2 0 = .ok (.iload_n 2, 1) := dk_28 (dk_at dksJ17_compareTo_2_0 0 rfl rfl)
theorem dJ17_compareTo_2_1 : decode cJ17_compareTo_2 1 = .ok (.iload_n 3, 1) := dk_29 (dk_at dksJ17_compareTo_2_0 1 rfl rfl)
theorem dJ17_compareTo_2_2 : decode cJ17_compareTo_2 2 = .ok (.invokestatic 38, 3) := dk_184 0 38 (dk_at dksJ17_compareTo_2_0 2 rfl rfl)
theorem dJ17_compareTo_2_5 : decode cJ17_compareTo_2 5 = .ok (.istore 4, 2) := dk_54 4 (dk_at dksJ17_compareTo_2_0 5 rfl rfl)
theorem dJ17_compareTo_2_7 : decode cJ17_compareTo_2 7 = .ok (.aload_n 0, 1) := dk_42 (dk_at dksJ17_compareTo_2_0 7 rfl rfl)
theorem dJ17_compareTo_2_8 : decode cJ17_compareTo_2 8 = .ok (.aload_n 1, 1) := dk_43 (dk_at dksJ17_compareTo_2_0 8 rfl rfl)
theorem dJ17_compareTo_2_9 : decode cJ17_compareTo_2 9 = .ok (.iload 4, 2) := dk_21 4 (dk_at dksJ17_compareTo_2_0 9 rfl rfl)
theorem dJ17_compareTo_2_11 : decode cJ17_compareTo_2 11 = .ok (.invokestatic 44, 3) := dk_184 0 44 (dk_at dksJ17_compareTo_2_0 11 rfl rfl)
theorem dJ17_compareTo_2_14 : decode cJ17_compareTo_2 14 = .ok (.istore 5, 2) := dk_54 5 (dk_at dksJ17_compareTo_2_0 14 rfl rfl)
theorem dJ17_compareTo_2_16 : decode cJ17_compareTo_2 16 = .ok (.iload 5, 2) := dk_21 5 (dk_at dksJ17_compareTo_2_0 16 rfl rfl)
theorem dJ17_compareTo_2_18 : decode cJ17_compareTo_2 18 = .ok (.ifCond .ge 9, 3) := dk_156 0 9 (dk_at dksJ17_compareTo_2_0 18 rfl rfl)
theorem dJ17_compareTo_2_21 : decode cJ17_compareTo_2 21 = .ok (.iload_n 2, 1) := dk_28 (dk_at dksJ17_compareTo_2_0 21 rfl rfl)
theorem dJ17_compareTo_2_22 : decode cJ17_compareTo_2 22 = .ok (.iload_n 3, 1) := dk_29 (dk_at dksJ17_compareTo_2_0 22 rfl rfl)
theorem dJ17_compareTo_2_23 : decode cJ17_compareTo_2 23 = .ok (.isub, 1) := dk_100 (dk_at dksJ17_compareTo_2_0 23 rfl rfl)
theorem dJ17_compareTo_2_24 : decode cJ17_compareTo_2 24 = .ok (.goto 16, 3) := dk_167 0 16 (dk_at dksJ17_compareTo_2_1 0 rfl rfl)
theorem dJ17_compareTo_2_27 : decode cJ17_compareTo_2 27 = .ok (.aload_n 0, 1) := dk_42 (dk_at dksJ17_compareTo_2_1 3 rfl rfl)
theorem dJ17_compareTo_2_28 : decode cJ17_compareTo_2 28 = .ok (.iload 5, 2) := dk_21 5 (dk_at dksJ17_compareTo_2_1 4 rfl rfl)
theorem dJ17_compareTo_2_30 : decode cJ17_compareTo_2 30 = .ok (.invokestatic 50, 3) := dk_184 0 50 (dk_at dksJ17_compareTo_2_1 6 rfl rfl)
theorem dJ17_compareTo_2_33 : decode cJ17_compareTo_2 33 = .ok (.aload_n 1, 1) := dk_43 (dk_at dksJ17_compareTo_2_1 9 rfl rfl)
theorem dJ17_compareTo_2_34 : decode cJ17_compareTo_2 34 = .ok (.iload 5, 2) := dk_21 5 (dk_at dksJ17_compareTo_2_1 10 rfl rfl)
theorem dJ17_compareTo_2_36 : decode cJ17_compareTo_2 36 = .ok (.invokestatic 50, 3) := dk_184 0 50 (dk_at dksJ17_compareTo_2_1 12 rfl rfl)
theorem dJ17_compareTo_2_39 : decode cJ17_compareTo_2 39 = .ok (.isub, 1) := dk_100 (dk_at dksJ17_compareTo_2_1 15 rfl rfl)
theorem dJ17_compareTo_2_40 : decode cJ17_compareTo_2 40 = .ok (.ireturn, 1) := dk_172 (dk_at dksJ17_compareTo_2_1 16 rfl rfl)
abbrev cJ17_getChar : ByteArray := prog_38_method_44_code
def yJ17_getChar : MethodName := ⟨RJ17, "getChar", "([BI)C"⟩
def dkwJ17_getChar_0 : List UInt8 := [42, 27, 51, 17, 0, 255, 126, 146, 172]
abbrev dktJ17_getChar_0 : List UInt8 := dkwJ17_getChar_0 ++ []
theorem dksJ17_getChar_0 : cJ17_getChar.data.toList.drop 0 = dktJ17_getChar_0 := by decide +kernel
theorem dJ17_getChar_0 : decode cJ17_getChar 0 = .ok (.aload_n 0, 1) := dk_42 (dk_at dksJ17_getChar_0 0 rfl rfl)
theorem dJ17_getChar_1 : decode cJ17_getChar 1 = .ok (.iload_n 1, 1) := dk_27 (dk_at dksJ17_getChar_0 1 rfl rfl)
theorem dJ17_getChar_2 : decode cJ17_getChar 2 = .ok (.baload, 1) := dk_51 (dk_at dksJ17_getChar_0 2 rfl rfl)
theorem dJ17_getChar_3 : decode cJ17_getChar 3 = .ok (.sipush 255, 3) := dk_17 0 255 (dk_at dksJ17_getChar_0 3 rfl rfl)
theorem dJ17_getChar_6 : decode cJ17_getChar 6 = .ok (.iand, 1) := dk_126 (dk_at dksJ17_getChar_0 6 rfl rfl)
theorem dJ17_getChar_7 : decode cJ17_getChar 7 = .ok (.i2c, 1) := dk_146 (dk_at dksJ17_getChar_0 7 rfl rfl)
theorem dJ17_getChar_8 : decode cJ17_getChar 8 = .ok (.ireturn, 1) := dk_172 (dk_at dksJ17_getChar_0 8 rfl rfl)
abbrev cJ17_compareToUTF16 : ByteArray := prog_38_method_16_code
def yJ17_compareToUTF16 : MethodName := ⟨RJ17, "compareToUTF16", "([B[B)I"⟩
def dkwJ17_compareToUTF16_0 : List UInt8 := [42, 184, 0, 54, 61, 43, 184, 0, 58, 62, 42, 43, 28, 29, 184, 0, 59, 172]
abbrev dktJ17_compareToUTF16_0 : List UInt8 := dkwJ17_compareToUTF16_0 ++ []
theorem dksJ17_compareToUTF16_0 : cJ17_compareToUTF16.data.toList.drop 0 = dktJ17_compareToUTF16_0 := by decide +kernel
theorem dJ17_compareToUTF16_0 : decode cJ17_compareToUTF16 0 = .ok (.aload_n 0, 1) := dk_42 (dk_at dksJ17_compareToUTF16_0 0 rfl rfl)
theorem dJ17_compareToUTF16_1 : decode cJ17_compareToUTF16 1 = .ok (.invokestatic 54, 3) := dk_184 0 54 (dk_at dksJ17_compareToUTF16_0 1 rfl rfl)
theorem dJ17_compareToUTF16_4 : decode cJ17_compareToUTF16 4 = .ok (.istore_n 2, 1) := dk_61 (dk_at dksJ17_compareToUTF16_0 4 rfl rfl)
theorem dJ17_compareToUTF16_5 : decode cJ17_compareToUTF16 5 = .ok (.aload_n 1, 1) := dk_43 (dk_at dksJ17_compareToUTF16_0 5 rfl rfl)
theorem dJ17_compareToUTF16_6 : decode cJ17_compareToUTF16 6 = .ok (.invokestatic 58, 3) := dk_184 0 58 (dk_at dksJ17_compareToUTF16_0 6 rfl rfl)
theorem dJ17_compareToUTF16_9 : decode cJ17_compareToUTF16 9 = .ok (.istore_n 3, 1) := dk_62 (dk_at dksJ17_compareToUTF16_0 9 rfl rfl)
theorem dJ17_compareToUTF16_10 : decode cJ17_compareToUTF16 10 = .ok (.aload_n 0, 1) := dk_42 (dk_at dksJ17_compareToUTF16_0 10 rfl rfl)
theorem dJ17_compareToUTF16_11 : decode cJ17_compareToUTF16 11 = .ok (.aload_n 1, 1) := dk_43 (dk_at dksJ17_compareToUTF16_0 11 rfl rfl)
theorem dJ17_compareToUTF16_12 : decode cJ17_compareToUTF16 12 = .ok (.iload_n 2, 1) := dk_28 (dk_at dksJ17_compareToUTF16_0 12 rfl rfl)
theorem dJ17_compareToUTF16_13 : decode cJ17_compareToUTF16 13 = .ok (.iload_n 3, 1) := dk_29 (dk_at dksJ17_compareToUTF16_0 13 rfl rfl)
theorem dJ17_compareToUTF16_14 : decode cJ17_compareToUTF16 14 = .ok (.invokestatic 59, 3) := dk_184 0 59 (dk_at dksJ17_compareToUTF16_0 14 rfl rfl)
theorem dJ17_compareToUTF16_17 : decode cJ17_compareToUTF16 17 = .ok (.ireturn, 1) := dk_172 (dk_at dksJ17_compareToUTF16_0 17 rfl rfl)
abbrev cJ17_length : ByteArray := prog_38_method_5_code
def yJ17_length : MethodName := ⟨RJ17, "length", "([B)I"⟩
theorem dJ17_length_0 : decode cJ17_length 0 = .ok (.aload_n 0, 1) := by decide +kernel
theorem dJ17_length_1 : decode cJ17_length 1 = .ok (.arraylength, 1) := by decide +kernel
theorem dJ17_length_2 : decode cJ17_length 2 = .ok (.ireturn, 1) := by decide +kernel
abbrev cJ17_compareToUTF16Values : ByteArray := prog_38_method_18_code
def yJ17_compareToUTF16Values : MethodName := ⟨RJ17, "compareToUTF16Values", "([B[BII)I"⟩
def dkwJ17_compareToUTF16Values_2 : List UInt8 := [132, 5, 1, 167, 255, 217, 28, 29, 100, 172]
abbrev dktJ17_compareToUTF16Values_2 : List UInt8 := dkwJ17_compareToUTF16Values_2 ++ []
def dkwJ17_compareToUTF16Values_1 : List UInt8 := [54, 6, 43, 21, 5, 184, 0, 65, 54, 7, 21, 6, 21, 7, 159, 0, 9, 21, 6, 21, 7, 100, 172]
abbrev dktJ17_compareToUTF16Values_1 : List UInt8 := dkwJ17_compareToUTF16Values_1 ++ dktJ17_compareToUTF16Values_2
def dkwJ17_compareToUTF16Values_0 : List UInt8 := [28, 29, 184, 0, 38, 54, 4, 3, 54, 5, 21, 5, 21, 4, 162, 0, 38, 42, 21, 5, 184, 0, 50]
abbrev dktJ17_compareToUTF16Values_0 : List UInt8 := dkwJ17_compareToUTF16Values_0 ++ dktJ17_compareToUTF16Values_1
theorem dksJ17_compareToUTF16Values_0 : cJ17_compareToUTF16Values.data.toList.drop 0 = dktJ17_compareToUTF16Values_0 := by decide +kernel
theorem dksJ17_compareToUTF16Values_1 : cJ17_compareToUTF16Values.data.toList.drop 23 = dktJ17_compareToUTF16Values_1 := dk_seg dksJ17_compareToUTF16Values_0 23 rfl rfl
theorem dksJ17_compareToUTF16Values_2 : cJ17_compareToUTF16Values.data.toList.drop 46 = dktJ17_compareToUTF16Values_2 := dk_seg dksJ17_compareToUTF16Values_1 23 rfl rfl
theorem dJ17_compareToUTF16Values_0 : decode cJ17_compareToUTF16Values 0 = .ok (.iload_n 2, 1) := dk_28 (dk_at dksJ17_compareToUTF16Values_0 0 rfl rfl)
theorem dJ17_compareToUTF16Values_1 : decode cJ17_compareToUTF16Values 1 = .ok (.iload_n 3, 1) := dk_29 (dk_at dksJ17_compareToUTF16Values_0 1 rfl rfl)
theorem dJ17_compareToUTF16Values_2 : decode cJ17_compareToUTF16Values 2 = .ok (.invokestatic 38, 3) := dk_184 0 38 (dk_at dksJ17_compareToUTF16Values_0 2 rfl rfl)
theorem dJ17_compareToUTF16Values_5 : decode cJ17_compareToUTF16Values 5 = .ok (.istore 4, 2) := dk_54 4 (dk_at dksJ17_compareToUTF16Values_0 5 rfl rfl)
theorem dJ17_compareToUTF16Values_7 : decode cJ17_compareToUTF16Values 7 = .ok (.iconst 0, 1) := dk_3 (dk_at dksJ17_compareToUTF16Values_0 7 rfl rfl)
theorem dJ17_compareToUTF16Values_8 : decode cJ17_compareToUTF16Values 8 = .ok (.istore 5, 2) := dk_54 5 (dk_at dksJ17_compareToUTF16Values_0 8 rfl rfl)
theorem dJ17_compareToUTF16Values_10 : decode cJ17_compareToUTF16Values 10 = .ok (.iload 5, 2) := dk_21 5 (dk_at dksJ17_compareToUTF16Values_0 10 rfl rfl)
theorem dJ17_compareToUTF16Values_12 : decode cJ17_compareToUTF16Values 12 = .ok (.iload 4, 2) := dk_21 4 (dk_at dksJ17_compareToUTF16Values_0 12 rfl rfl)
theorem dJ17_compareToUTF16Values_14 : decode cJ17_compareToUTF16Values 14 = .ok (.if_icmp .ge 38, 3) := dk_162 0 38 (dk_at dksJ17_compareToUTF16Values_0 14 rfl rfl)
theorem dJ17_compareToUTF16Values_17 : decode cJ17_compareToUTF16Values 17 = .ok (.aload_n 0, 1) := dk_42 (dk_at dksJ17_compareToUTF16Values_0 17 rfl rfl)
theorem dJ17_compareToUTF16Values_18 : decode cJ17_compareToUTF16Values 18 = .ok (.iload 5, 2) := dk_21 5 (dk_at dksJ17_compareToUTF16Values_0 18 rfl rfl)
theorem dJ17_compareToUTF16Values_20 : decode cJ17_compareToUTF16Values 20 = .ok (.invokestatic 50, 3) := dk_184 0 50 (dk_at dksJ17_compareToUTF16Values_0 20 rfl rfl)
theorem dJ17_compareToUTF16Values_23 : decode cJ17_compareToUTF16Values 23 = .ok (.istore 6, 2) := dk_54 6 (dk_at dksJ17_compareToUTF16Values_1 0 rfl rfl)
theorem dJ17_compareToUTF16Values_25 : decode cJ17_compareToUTF16Values 25 = .ok (.aload_n 1, 1) := dk_43 (dk_at dksJ17_compareToUTF16Values_1 2 rfl rfl)
theorem dJ17_compareToUTF16Values_26 : decode cJ17_compareToUTF16Values 26 = .ok (.iload 5, 2) := dk_21 5 (dk_at dksJ17_compareToUTF16Values_1 3 rfl rfl)
theorem dJ17_compareToUTF16Values_28 : decode cJ17_compareToUTF16Values 28 = .ok (.invokestatic 65, 3) := dk_184 0 65 (dk_at dksJ17_compareToUTF16Values_1 5 rfl rfl)
theorem dJ17_compareToUTF16Values_31 : decode cJ17_compareToUTF16Values 31 = .ok (.istore 7, 2) := dk_54 7 (dk_at dksJ17_compareToUTF16Values_1 8 rfl rfl)
theorem dJ17_compareToUTF16Values_33 : decode cJ17_compareToUTF16Values 33 = .ok (.iload 6, 2) := dk_21 6 (dk_at dksJ17_compareToUTF16Values_1 10 rfl rfl)
theorem dJ17_compareToUTF16Values_35 : decode cJ17_compareToUTF16Values 35 = .ok (.iload 7, 2) := dk_21 7 (dk_at dksJ17_compareToUTF16Values_1 12 rfl rfl)
theorem dJ17_compareToUTF16Values_37 : decode cJ17_compareToUTF16Values 37 = .ok (.if_icmp .eq 9, 3) := dk_159 0 9 (dk_at dksJ17_compareToUTF16Values_1 14 rfl rfl)
theorem dJ17_compareToUTF16Values_40 : decode cJ17_compareToUTF16Values 40 = .ok (.iload 6, 2) := dk_21 6 (dk_at dksJ17_compareToUTF16Values_1 17 rfl rfl)
theorem dJ17_compareToUTF16Values_42 : decode cJ17_compareToUTF16Values 42 = .ok (.iload 7, 2) := dk_21 7 (dk_at dksJ17_compareToUTF16Values_1 19 rfl rfl)
theorem dJ17_compareToUTF16Values_44 : decode cJ17_compareToUTF16Values 44 = .ok (.isub, 1) := dk_100 (dk_at dksJ17_compareToUTF16Values_1 21 rfl rfl)
theorem dJ17_compareToUTF16Values_45 : decode cJ17_compareToUTF16Values 45 = .ok (.ireturn, 1) := dk_172 (dk_at dksJ17_compareToUTF16Values_1 22 rfl rfl)
theorem dJ17_compareToUTF16Values_46 : decode cJ17_compareToUTF16Values 46 = .ok (.iinc 5 1, 3) := dk_132 5 1 (dk_at dksJ17_compareToUTF16Values_2 0 rfl rfl)
theorem dJ17_compareToUTF16Values_49 : decode cJ17_compareToUTF16Values 49 = .ok (.goto (-39), 3) := dk_167 255 217 (dk_at dksJ17_compareToUTF16Values_2 3 rfl rfl)
theorem dJ17_compareToUTF16Values_52 : decode cJ17_compareToUTF16Values 52 = .ok (.iload_n 2, 1) := dk_28 (dk_at dksJ17_compareToUTF16Values_2 6 rfl rfl)
theorem dJ17_compareToUTF16Values_53 : decode cJ17_compareToUTF16Values 53 = .ok (.iload_n 3, 1) := dk_29 (dk_at dksJ17_compareToUTF16Values_2 7 rfl rfl)
theorem dJ17_compareToUTF16Values_54 : decode cJ17_compareToUTF16Values 54 = .ok (.isub, 1) := dk_100 (dk_at dksJ17_compareToUTF16Values_2 8 rfl rfl)
theorem dJ17_compareToUTF16Values_55 : decode cJ17_compareToUTF16Values 55 = .ok (.ireturn, 1) := dk_172 (dk_at dksJ17_compareToUTF16Values_2 9 rfl rfl)
abbrev cJ17_compareToUTF16_2 : ByteArray := prog_38_method_17_code
def yJ17_compareToUTF16_2 : MethodName := ⟨RJ17, "compareToUTF16", "([B[BII)I"⟩
def dkwJ17_compareToUTF16_2_0 : List UInt8 := [28, 42, 184, 0, 54, 184, 0, 62, 29, 43, 184, 0, 58, 184, 0, 62, 42, 43, 28, 29, 184, 0, 59, 172]
abbrev dktJ17_compareToUTF16_2_0 : List UInt8 := dkwJ17_compareToUTF16_2_0 ++ []
theorem dksJ17_compareToUTF16_2_0 : cJ17_compareToUTF16_2.data.toList.drop 0 = dktJ17_compareToUTF16_2_0 := by decide +kernel
theorem dJ17_compareToUTF16_2_0 : decode cJ17_compareToUTF16_2 0 = .ok (.iload_n 2, 1) := dk_28 (dk_at dksJ17_compareToUTF16_2_0 0 rfl rfl)
theorem dJ17_compareToUTF16_2_1 : decode cJ17_compareToUTF16_2 1 = .ok (.aload_n 0, 1) := dk_42 (dk_at dksJ17_compareToUTF16_2_0 1 rfl rfl)
theorem dJ17_compareToUTF16_2_2 : decode cJ17_compareToUTF16_2 2 = .ok (.invokestatic 54, 3) := dk_184 0 54 (dk_at dksJ17_compareToUTF16_2_0 2 rfl rfl)
theorem dJ17_compareToUTF16_2_5 : decode cJ17_compareToUTF16_2 5 = .ok (.invokestatic 62, 3) := dk_184 0 62 (dk_at dksJ17_compareToUTF16_2_0 5 rfl rfl)
theorem dJ17_compareToUTF16_2_8 : decode cJ17_compareToUTF16_2 8 = .ok (.iload_n 3, 1) := dk_29 (dk_at dksJ17_compareToUTF16_2_0 8 rfl rfl)
theorem dJ17_compareToUTF16_2_9 : decode cJ17_compareToUTF16_2 9 = .ok (.aload_n 1, 1) := dk_43 (dk_at dksJ17_compareToUTF16_2_0 9 rfl rfl)
theorem dJ17_compareToUTF16_2_10 : decode cJ17_compareToUTF16_2 10 = .ok (.invokestatic 58, 3) := dk_184 0 58 (dk_at dksJ17_compareToUTF16_2_0 10 rfl rfl)
theorem dJ17_compareToUTF16_2_13 : decode cJ17_compareToUTF16_2 13 = .ok (.invokestatic 62, 3) := dk_184 0 62 (dk_at dksJ17_compareToUTF16_2_0 13 rfl rfl)
theorem dJ17_compareToUTF16_2_16 : decode cJ17_compareToUTF16_2 16 = .ok (.aload_n 0, 1) := dk_42 (dk_at dksJ17_compareToUTF16_2_0 16 rfl rfl)
theorem dJ17_compareToUTF16_2_17 : decode cJ17_compareToUTF16_2 17 = .ok (.aload_n 1, 1) := dk_43 (dk_at dksJ17_compareToUTF16_2_0 17 rfl rfl)
theorem dJ17_compareToUTF16_2_18 : decode cJ17_compareToUTF16_2 18 = .ok (.iload_n 2, 1) := dk_28 (dk_at dksJ17_compareToUTF16_2_0 18 rfl rfl)
theorem dJ17_compareToUTF16_2_19 : decode cJ17_compareToUTF16_2 19 = .ok (.iload_n 3, 1) := dk_29 (dk_at dksJ17_compareToUTF16_2_0 19 rfl rfl)
theorem dJ17_compareToUTF16_2_20 : decode cJ17_compareToUTF16_2 20 = .ok (.invokestatic 59, 3) := dk_184 0 59 (dk_at dksJ17_compareToUTF16_2_0 20 rfl rfl)
theorem dJ17_compareToUTF16_2_23 : decode cJ17_compareToUTF16_2 23 = .ok (.ireturn, 1) := dk_172 (dk_at dksJ17_compareToUTF16_2_0 23 rfl rfl)
abbrev cJ17_hashCode : ByteArray := prog_38_method_21_code
def yJ17_hashCode : MethodName := ⟨RJ17, "hashCode", "([B)I"⟩
def dkwJ17_hashCode_2 : List UInt8 := [3, 167, 0, 22, 42, 3, 51, 17, 0, 255, 126, 167, 0, 12, 42, 3, 42, 190, 3, 7, 184, 0, 84, 172]
abbrev dktJ17_hashCode_2 : List UInt8 := dkwJ17_hashCode_2 ++ []
def dkwJ17_hashCode_1 : List UInt8 := [171, 0, 0, 0, 0, 40, 0, 0, 0, 2, 0, 0, 0, 0, 0, 0, 0, 26, 0, 0, 0, 1, 0, 0, 0, 30]
abbrev dktJ17_hashCode_1 : List UInt8 := dkwJ17_hashCode_1 ++ dktJ17_hashCode_2
def dkwJ17_hashCode_0 : List UInt8 := [42, 190]
abbrev dktJ17_hashCode_0 : List UInt8 := dkwJ17_hashCode_0 ++ dktJ17_hashCode_1
theorem dksJ17_hashCode_0 : cJ17_hashCode.data.toList.drop 0 = dktJ17_hashCode_0 := by decide +kernel
theorem dksJ17_hashCode_1 : cJ17_hashCode.data.toList.drop 2 = dktJ17_hashCode_1 := dk_seg dksJ17_hashCode_0 2 rfl rfl
theorem dksJ17_hashCode_2 : cJ17_hashCode.data.toList.drop 28 = dktJ17_hashCode_2 := dk_seg dksJ17_hashCode_1 26 rfl rfl
theorem dJ17_hashCode_0 : decode cJ17_hashCode 0 = .ok (.aload_n 0, 1) := dk_42 (dk_at dksJ17_hashCode_0 0 rfl rfl)
theorem dJ17_hashCode_1 : decode cJ17_hashCode 1 = .ok (.arraylength, 1) := dk_190 (dk_at dksJ17_hashCode_0 1 rfl rfl)
theorem dJ17_hashCode_2 : decode cJ17_hashCode 2 = .ok (.lookupswitch 40 #[(0, 26), (1, 30)], 26) := by decide +kernel
theorem dJ17_hashCode_28 : decode cJ17_hashCode 28 = .ok (.iconst 0, 1) := dk_3 (dk_at dksJ17_hashCode_2 0 rfl rfl)
theorem dJ17_hashCode_29 : decode cJ17_hashCode 29 = .ok (.goto 22, 3) := dk_167 0 22 (dk_at dksJ17_hashCode_2 1 rfl rfl)
theorem dJ17_hashCode_32 : decode cJ17_hashCode 32 = .ok (.aload_n 0, 1) := dk_42 (dk_at dksJ17_hashCode_2 4 rfl rfl)
theorem dJ17_hashCode_33 : decode cJ17_hashCode 33 = .ok (.iconst 0, 1) := dk_3 (dk_at dksJ17_hashCode_2 5 rfl rfl)
theorem dJ17_hashCode_34 : decode cJ17_hashCode 34 = .ok (.baload, 1) := dk_51 (dk_at dksJ17_hashCode_2 6 rfl rfl)
theorem dJ17_hashCode_35 : decode cJ17_hashCode 35 = .ok (.sipush 255, 3) := dk_17 0 255 (dk_at dksJ17_hashCode_2 7 rfl rfl)
theorem dJ17_hashCode_38 : decode cJ17_hashCode 38 = .ok (.iand, 1) := dk_126 (dk_at dksJ17_hashCode_2 10 rfl rfl)
theorem dJ17_hashCode_39 : decode cJ17_hashCode 39 = .ok (.goto 12, 3) := dk_167 0 12 (dk_at dksJ17_hashCode_2 11 rfl rfl)
theorem dJ17_hashCode_42 : decode cJ17_hashCode 42 = .ok (.aload_n 0, 1) := dk_42 (dk_at dksJ17_hashCode_2 14 rfl rfl)
theorem dJ17_hashCode_43 : decode cJ17_hashCode 43 = .ok (.iconst 0, 1) := dk_3 (dk_at dksJ17_hashCode_2 15 rfl rfl)
theorem dJ17_hashCode_44 : decode cJ17_hashCode 44 = .ok (.aload_n 0, 1) := dk_42 (dk_at dksJ17_hashCode_2 16 rfl rfl)
theorem dJ17_hashCode_45 : decode cJ17_hashCode 45 = .ok (.arraylength, 1) := dk_190 (dk_at dksJ17_hashCode_2 17 rfl rfl)
theorem dJ17_hashCode_46 : decode cJ17_hashCode 46 = .ok (.iconst 0, 1) := dk_3 (dk_at dksJ17_hashCode_2 18 rfl rfl)
theorem dJ17_hashCode_47 : decode cJ17_hashCode 47 = .ok (.iconst 4, 1) := dk_7 (dk_at dksJ17_hashCode_2 19 rfl rfl)
theorem dJ17_hashCode_48 : decode cJ17_hashCode 48 = .ok (.invokestatic 84, 3) := dk_184 0 84 (dk_at dksJ17_hashCode_2 20 rfl rfl)
theorem dJ17_hashCode_51 : decode cJ17_hashCode 51 = .ok (.ireturn, 1) := dk_172 (dk_at dksJ17_hashCode_2 23 rfl rfl)
abbrev cJ17_canEncode : ByteArray := prog_38_method_3_code
def yJ17_canEncode : MethodName := ⟨RJ17, "canEncode", "(C)Z"⟩
def dkwJ17_canEncode_0 : List UInt8 := [26, 17, 0, 255, 163, 0, 7, 4, 167, 0, 4, 3, 172]
abbrev dktJ17_canEncode_0 : List UInt8 := dkwJ17_canEncode_0 ++ []
theorem dksJ17_canEncode_0 : cJ17_canEncode.data.toList.drop 0 = dktJ17_canEncode_0 := by decide +kernel
theorem dJ17_canEncode_0 : decode cJ17_canEncode 0 = .ok (.iload_n 0, 1) := dk_26 (dk_at dksJ17_canEncode_0 0 rfl rfl)
theorem dJ17_canEncode_1 : decode cJ17_canEncode 1 = .ok (.sipush 255, 3) := dk_17 0 255 (dk_at dksJ17_canEncode_0 1 rfl rfl)
theorem dJ17_canEncode_4 : decode cJ17_canEncode 4 = .ok (.if_icmp .gt 7, 3) := dk_163 0 7 (dk_at dksJ17_canEncode_0 4 rfl rfl)
theorem dJ17_canEncode_7 : decode cJ17_canEncode 7 = .ok (.iconst 1, 1) := dk_4 (dk_at dksJ17_canEncode_0 7 rfl rfl)
theorem dJ17_canEncode_8 : decode cJ17_canEncode 8 = .ok (.goto 4, 3) := dk_167 0 4 (dk_at dksJ17_canEncode_0 8 rfl rfl)
theorem dJ17_canEncode_11 : decode cJ17_canEncode 11 = .ok (.iconst 0, 1) := dk_3 (dk_at dksJ17_canEncode_0 11 rfl rfl)
theorem dJ17_canEncode_12 : decode cJ17_canEncode 12 = .ok (.ireturn, 1) := dk_172 (dk_at dksJ17_canEncode_0 12 rfl rfl)
abbrev cJ17_fillNull : ByteArray := prog_38_method_48_code
def yJ17_fillNull : MethodName := ⟨RJ17, "fillNull", "([BII)V"⟩
def dkwJ17_fillNull_0 : List UInt8 := [42, 27, 28, 3, 184, 0, 236, 177]
abbrev dktJ17_fillNull_0 : List UInt8 := dkwJ17_fillNull_0 ++ []
theorem dksJ17_fillNull_0 : cJ17_fillNull.data.toList.drop 0 = dktJ17_fillNull_0 := by decide +kernel
theorem dJ17_fillNull_0 : decode cJ17_fillNull 0 = .ok (.aload_n 0, 1) := dk_42 (dk_at dksJ17_fillNull_0 0 rfl rfl)
theorem dJ17_fillNull_1 : decode cJ17_fillNull 1 = .ok (.iload_n 1, 1) := dk_27 (dk_at dksJ17_fillNull_0 1 rfl rfl)
theorem dJ17_fillNull_2 : decode cJ17_fillNull 2 = .ok (.iload_n 2, 1) := dk_28 (dk_at dksJ17_fillNull_0 2 rfl rfl)
theorem dJ17_fillNull_3 : decode cJ17_fillNull 3 = .ok (.iconst 0, 1) := dk_3 (dk_at dksJ17_fillNull_0 3 rfl rfl)
theorem dJ17_fillNull_4 : decode cJ17_fillNull 4 = .ok (.invokestatic 236, 3) := dk_184 0 236 (dk_at dksJ17_fillNull_0 4 rfl rfl)
theorem dJ17_fillNull_7 : decode cJ17_fillNull 7 = .ok (.return_, 1) := dk_177 (dk_at dksJ17_fillNull_0 7 rfl rfl)
abbrev cJ17_charAt : ByteArray := prog_38_method_2_code
def yJ17_charAt : MethodName := ⟨RJ17, "charAt", "([BI)C"⟩
def dkwJ17_charAt_0 : List UInt8 := [27, 42, 190, 184, 0, 9, 42, 27, 51, 17, 0, 255, 126, 146, 172]
abbrev dktJ17_charAt_0 : List UInt8 := dkwJ17_charAt_0 ++ []
theorem dksJ17_charAt_0 : cJ17_charAt.data.toList.drop 0 = dktJ17_charAt_0 := by decide +kernel
theorem dJ17_charAt_0 : decode cJ17_charAt 0 = .ok (.iload_n 1, 1) := dk_27 (dk_at dksJ17_charAt_0 0 rfl rfl)
theorem dJ17_charAt_1 : decode cJ17_charAt 1 = .ok (.aload_n 0, 1) := dk_42 (dk_at dksJ17_charAt_0 1 rfl rfl)
theorem dJ17_charAt_2 : decode cJ17_charAt 2 = .ok (.arraylength, 1) := dk_190 (dk_at dksJ17_charAt_0 2 rfl rfl)
theorem dJ17_charAt_3 : decode cJ17_charAt 3 = .ok (.invokestatic 9, 3) := dk_184 0 9 (dk_at dksJ17_charAt_0 3 rfl rfl)
theorem dJ17_charAt_6 : decode cJ17_charAt 6 = .ok (.aload_n 0, 1) := dk_42 (dk_at dksJ17_charAt_0 6 rfl rfl)
theorem dJ17_charAt_7 : decode cJ17_charAt 7 = .ok (.iload_n 1, 1) := dk_27 (dk_at dksJ17_charAt_0 7 rfl rfl)
theorem dJ17_charAt_8 : decode cJ17_charAt 8 = .ok (.baload, 1) := dk_51 (dk_at dksJ17_charAt_0 8 rfl rfl)
theorem dJ17_charAt_9 : decode cJ17_charAt 9 = .ok (.sipush 255, 3) := dk_17 0 255 (dk_at dksJ17_charAt_0 9 rfl rfl)
theorem dJ17_charAt_12 : decode cJ17_charAt 12 = .ok (.iand, 1) := dk_126 (dk_at dksJ17_charAt_0 12 rfl rfl)
theorem dJ17_charAt_13 : decode cJ17_charAt 13 = .ok (.i2c, 1) := dk_146 (dk_at dksJ17_charAt_0 13 rfl rfl)
theorem dJ17_charAt_14 : decode cJ17_charAt 14 = .ok (.ireturn, 1) := dk_172 (dk_at dksJ17_charAt_0 14 rfl rfl)
abbrev cJ17_newString : ByteArray := prog_38_method_47_code
def yJ17_newString : MethodName := ⟨RJ17, "newString", "([BII)Ljava/lang/String;"⟩
def dkwJ17_newString_0 : List UInt8 := [28, 154, 0, 6, 18, 151, 176, 187, 0, 1, 89, 42, 27, 27, 28, 96, 184, 0, 232, 3, 183, 0, 112, 176]
abbrev dktJ17_newString_0 : List UInt8 := dkwJ17_newString_0 ++ []
theorem dksJ17_newString_0 : cJ17_newString.data.toList.drop 0 = dktJ17_newString_0 := by decide +kernel
theorem dJ17_newString_0 : decode cJ17_newString 0 = .ok (.iload_n 2, 1) := dk_28 (dk_at dksJ17_newString_0 0 rfl rfl)
theorem dJ17_newString_1 : decode cJ17_newString 1 = .ok (.ifCond .ne 6, 3) := dk_154 0 6 (dk_at dksJ17_newString_0 1 rfl rfl)
theorem dJ17_newString_4 : decode cJ17_newString 4 = .ok (.ldc 151, 2) := dk_18 151 (dk_at dksJ17_newString_0 4 rfl rfl)
theorem dJ17_newString_6 : decode cJ17_newString 6 = .ok (.areturn, 1) := dk_176 (dk_at dksJ17_newString_0 6 rfl rfl)
theorem dJ17_newString_7 : decode cJ17_newString 7 = .ok (.new 1, 3) := dk_187 0 1 (dk_at dksJ17_newString_0 7 rfl rfl)
theorem dJ17_newString_10 : decode cJ17_newString 10 = .ok (.dup, 1) := dk_89 (dk_at dksJ17_newString_0 10 rfl rfl)
theorem dJ17_newString_11 : decode cJ17_newString 11 = .ok (.aload_n 0, 1) := dk_42 (dk_at dksJ17_newString_0 11 rfl rfl)
theorem dJ17_newString_12 : decode cJ17_newString 12 = .ok (.iload_n 1, 1) := dk_27 (dk_at dksJ17_newString_0 12 rfl rfl)
theorem dJ17_newString_13 : decode cJ17_newString 13 = .ok (.iload_n 1, 1) := dk_27 (dk_at dksJ17_newString_0 13 rfl rfl)
theorem dJ17_newString_14 : decode cJ17_newString 14 = .ok (.iload_n 2, 1) := dk_28 (dk_at dksJ17_newString_0 14 rfl rfl)
theorem dJ17_newString_15 : decode cJ17_newString 15 = .ok (.iadd, 1) := dk_96 (dk_at dksJ17_newString_0 15 rfl rfl)
theorem dJ17_newString_16 : decode cJ17_newString 16 = .ok (.invokestatic 232, 3) := dk_184 0 232 (dk_at dksJ17_newString_0 16 rfl rfl)
theorem dJ17_newString_19 : decode cJ17_newString 19 = .ok (.iconst 0, 1) := dk_3 (dk_at dksJ17_newString_0 19 rfl rfl)
theorem dJ17_newString_20 : decode cJ17_newString 20 = .ok (.invokespecial 112, 3) := dk_183 0 112 (dk_at dksJ17_newString_0 20 rfl rfl)
theorem dJ17_newString_23 : decode cJ17_newString 23 = .ok (.areturn, 1) := dk_176 (dk_at dksJ17_newString_0 23 rfl rfl)
abbrev cJ18_init : ByteArray := prog_53_method_1_code
def yJ18_init : MethodName := ⟨RJ18, "<init>", "()V"⟩
theorem dJ18_init_0 : decode cJ18_init 0 = .ok (.aload_n 0, 1) := by decide +kernel
theorem dJ18_init_1 : decode cJ18_init 1 = .ok (.invokespecial 1, 3) := by decide +kernel
theorem dJ18_init_4 : decode cJ18_init 4 = .ok (.return_, 1) := by decide +kernel
abbrev cJ19_init : ByteArray := prog_85_method_1_code
def yJ19_init : MethodName := ⟨RJ19, "<init>", "(Ljava/util/TreeMap;)V"⟩
def dkwJ19_init_0 : List UInt8 := [42, 43, 181, 0, 1, 42, 183, 0, 7, 177]
abbrev dktJ19_init_0 : List UInt8 := dkwJ19_init_0 ++ []
theorem dksJ19_init_0 : cJ19_init.data.toList.drop 0 = dktJ19_init_0 := by decide +kernel
theorem dJ19_init_0 : decode cJ19_init 0 = .ok (.aload_n 0, 1) := dk_42 (dk_at dksJ19_init_0 0 rfl rfl)
theorem dJ19_init_1 : decode cJ19_init 1 = .ok (.aload_n 1, 1) := dk_43 (dk_at dksJ19_init_0 1 rfl rfl)
theorem dJ19_init_2 : decode cJ19_init 2 = .ok (.putfield 1, 3) := dk_181 0 1 (dk_at dksJ19_init_0 2 rfl rfl)
theorem dJ19_init_5 : decode cJ19_init 5 = .ok (.aload_n 0, 1) := dk_42 (dk_at dksJ19_init_0 5 rfl rfl)
theorem dJ19_init_6 : decode cJ19_init 6 = .ok (.invokespecial 7, 3) := dk_183 0 7 (dk_at dksJ19_init_0 6 rfl rfl)
theorem dJ19_init_9 : decode cJ19_init 9 = .ok (.return_, 1) := dk_177 (dk_at dksJ19_init_0 9 rfl rfl)
abbrev cJ19_iterator : ByteArray := prog_85_method_2_code
def yJ19_iterator : MethodName := ⟨RJ19, "iterator", "()Ljava/util/Iterator;"⟩
def dkwJ19_iterator_0 : List UInt8 := [187, 0, 13, 89, 42, 180, 0, 1, 42, 180, 0, 1, 182, 0, 15, 183, 0, 21, 176]
abbrev dktJ19_iterator_0 : List UInt8 := dkwJ19_iterator_0 ++ []
theorem dksJ19_iterator_0 : cJ19_iterator.data.toList.drop 0 = dktJ19_iterator_0 := by decide +kernel
theorem dJ19_iterator_0 : decode cJ19_iterator 0 = .ok (.new 13, 3) := dk_187 0 13 (dk_at dksJ19_iterator_0 0 rfl rfl)
theorem dJ19_iterator_3 : decode cJ19_iterator 3 = .ok (.dup, 1) := dk_89 (dk_at dksJ19_iterator_0 3 rfl rfl)
theorem dJ19_iterator_4 : decode cJ19_iterator 4 = .ok (.aload_n 0, 1) := dk_42 (dk_at dksJ19_iterator_0 4 rfl rfl)
theorem dJ19_iterator_5 : decode cJ19_iterator 5 = .ok (.getfield 1, 3) := dk_180 0 1 (dk_at dksJ19_iterator_0 5 rfl rfl)
theorem dJ19_iterator_8 : decode cJ19_iterator 8 = .ok (.aload_n 0, 1) := dk_42 (dk_at dksJ19_iterator_0 8 rfl rfl)
theorem dJ19_iterator_9 : decode cJ19_iterator 9 = .ok (.getfield 1, 3) := dk_180 0 1 (dk_at dksJ19_iterator_0 9 rfl rfl)
theorem dJ19_iterator_12 : decode cJ19_iterator 12 = .ok (.invokevirtual 15, 3) := dk_182 0 15 (dk_at dksJ19_iterator_0 12 rfl rfl)
theorem dJ19_iterator_15 : decode cJ19_iterator 15 = .ok (.invokespecial 21, 3) := dk_183 0 21 (dk_at dksJ19_iterator_0 15 rfl rfl)
theorem dJ19_iterator_18 : decode cJ19_iterator 18 = .ok (.areturn, 1) := dk_176 (dk_at dksJ19_iterator_0 18 rfl rfl)
abbrev cJ19_size : ByteArray := prog_85_method_5_code
def yJ19_size : MethodName := ⟨RJ19, "size", "()I"⟩
def dkwJ19_size_0 : List UInt8 := [42, 180, 0, 1, 182, 0, 48, 172]
abbrev dktJ19_size_0 : List UInt8 := dkwJ19_size_0 ++ []
theorem dksJ19_size_0 : cJ19_size.data.toList.drop 0 = dktJ19_size_0 := by decide +kernel
theorem dJ19_size_0 : decode cJ19_size 0 = .ok (.aload_n 0, 1) := dk_42 (dk_at dksJ19_size_0 0 rfl rfl)
theorem dJ19_size_1 : decode cJ19_size 1 = .ok (.getfield 1, 3) := dk_180 0 1 (dk_at dksJ19_size_0 1 rfl rfl)
theorem dJ19_size_4 : decode cJ19_size 4 = .ok (.invokevirtual 48, 3) := dk_182 0 48 (dk_at dksJ19_size_0 4 rfl rfl)
theorem dJ19_size_7 : decode cJ19_size 7 = .ok (.ireturn, 1) := dk_172 (dk_at dksJ19_size_0 7 rfl rfl)
abbrev cJ20_init : ByteArray := prog_86_method_1_code
def yJ20_init : MethodName := ⟨RJ20, "<init>", "(Ljava/util/TreeMap;Ljava/util/TreeMap$Entry;)V"⟩
def dkwJ20_init_1 : List UInt8 := [181, 0, 26, 177]
abbrev dktJ20_init_1 : List UInt8 := dkwJ20_init_1 ++ []
def dkwJ20_init_0 : List UInt8 := [42, 43, 181, 0, 1, 42, 183, 0, 7, 42, 43, 180, 0, 13, 181, 0, 19, 42, 1, 181, 0, 22, 42, 44]
abbrev dktJ20_init_0 : List UInt8 := dkwJ20_init_0 ++ dktJ20_init_1
theorem dksJ20_init_0 : cJ20_init.data.toList.drop 0 = dktJ20_init_0 := by decide +kernel
theorem dksJ20_init_1 : cJ20_init.data.toList.drop 24 = dktJ20_init_1 := dk_seg dksJ20_init_0 24 rfl rfl
theorem dJ20_init_0 : decode cJ20_init 0 = .ok (.aload_n 0, 1) := dk_42 (dk_at dksJ20_init_0 0 rfl rfl)
theorem dJ20_init_1 : decode cJ20_init 1 = .ok (.aload_n 1, 1) := dk_43 (dk_at dksJ20_init_0 1 rfl rfl)
theorem dJ20_init_2 : decode cJ20_init 2 = .ok (.putfield 1, 3) := dk_181 0 1 (dk_at dksJ20_init_0 2 rfl rfl)
theorem dJ20_init_5 : decode cJ20_init 5 = .ok (.aload_n 0, 1) := dk_42 (dk_at dksJ20_init_0 5 rfl rfl)
theorem dJ20_init_6 : decode cJ20_init 6 = .ok (.invokespecial 7, 3) := dk_183 0 7 (dk_at dksJ20_init_0 6 rfl rfl)
theorem dJ20_init_9 : decode cJ20_init 9 = .ok (.aload_n 0, 1) := dk_42 (dk_at dksJ20_init_0 9 rfl rfl)
theorem dJ20_init_10 : decode cJ20_init 10 = .ok (.aload_n 1, 1) := dk_43 (dk_at dksJ20_init_0 10 rfl rfl)
theorem dJ20_init_11 : decode cJ20_init 11 = .ok (.getfield 13, 3) := dk_180 0 13 (dk_at dksJ20_init_0 11 rfl rfl)
theorem dJ20_init_14 : decode cJ20_init 14 = .ok (.putfield 19, 3) := dk_181 0 19 (dk_at dksJ20_init_0 14 rfl rfl)
theorem dJ20_init_17 : decode cJ20_init 17 = .ok (.aload_n 0, 1) := dk_42 (dk_at dksJ20_init_0 17 rfl rfl)
theorem dJ20_init_18 : decode cJ20_init 18 = .ok (.aconst_null, 1) := dk_1 (dk_at dksJ20_init_0 18 rfl rfl)
theorem dJ20_init_19 : decode cJ20_init 19 = .ok (.putfield 22, 3) := dk_181 0 22 (dk_at dksJ20_init_0 19 rfl rfl)
theorem dJ20_init_22 : decode cJ20_init 22 = .ok (.aload_n 0, 1) := dk_42 (dk_at dksJ20_init_0 22 rfl rfl)
theorem dJ20_init_23 : decode cJ20_init 23 = .ok (.aload_n 2, 1) := dk_44 (dk_at dksJ20_init_0 23 rfl rfl)
theorem dJ20_init_24 : decode cJ20_init 24 = .ok (.putfield 26, 3) := dk_181 0 26 (dk_at dksJ20_init_1 0 rfl rfl)
theorem dJ20_init_27 : decode cJ20_init 27 = .ok (.return_, 1) := dk_177 (dk_at dksJ20_init_1 3 rfl rfl)
abbrev cJ20_nextEntry : ByteArray := prog_86_method_3_code
def yJ20_nextEntry : MethodName := ⟨RJ20, "nextEntry", "()Ljava/util/TreeMap$Entry;"⟩
def dkwJ20_nextEntry_2 : List UInt8 := [43, 181, 0, 22, 43, 176]
abbrev dktJ20_nextEntry_2 : List UInt8 := dkwJ20_nextEntry_2 ++ []
def dkwJ20_nextEntry_1 : List UInt8 := [42, 180, 0, 19, 159, 0, 11, 187, 0, 32, 89, 183, 0, 34, 191, 42, 43, 184, 0, 35, 181, 0, 26, 42]
abbrev dktJ20_nextEntry_1 : List UInt8 := dkwJ20_nextEntry_1 ++ dktJ20_nextEntry_2
def dkwJ20_nextEntry_0 : List UInt8 := [42, 180, 0, 26, 76, 43, 199, 0, 11, 187, 0, 29, 89, 183, 0, 31, 191, 42, 180, 0, 1, 180, 0, 13]
abbrev dktJ20_nextEntry_0 : List UInt8 := dkwJ20_nextEntry_0 ++ dktJ20_nextEntry_1
theorem dksJ20_nextEntry_0 : cJ20_nextEntry.data.toList.drop 0 = dktJ20_nextEntry_0 := by decide +kernel
theorem dksJ20_nextEntry_1 : cJ20_nextEntry.data.toList.drop 24 = dktJ20_nextEntry_1 := dk_seg dksJ20_nextEntry_0 24 rfl rfl
theorem dksJ20_nextEntry_2 : cJ20_nextEntry.data.toList.drop 48 = dktJ20_nextEntry_2 := dk_seg dksJ20_nextEntry_1 24 rfl rfl
theorem dJ20_nextEntry_0 : decode cJ20_nextEntry 0 = .ok (.aload_n 0, 1) := dk_42 (dk_at dksJ20_nextEntry_0 0 rfl rfl)
theorem dJ20_nextEntry_1 : decode cJ20_nextEntry 1 = .ok (.getfield 26, 3) := dk_180 0 26 (dk_at dksJ20_nextEntry_0 1 rfl rfl)
theorem dJ20_nextEntry_4 : decode cJ20_nextEntry 4 = .ok (.astore_n 1, 1) := dk_76 (dk_at dksJ20_nextEntry_0 4 rfl rfl)
theorem dJ20_nextEntry_5 : decode cJ20_nextEntry 5 = .ok (.aload_n 1, 1) := dk_43 (dk_at dksJ20_nextEntry_0 5 rfl rfl)
theorem dJ20_nextEntry_6 : decode cJ20_nextEntry 6 = .ok (.ifnonnull 11, 3) := dk_199 0 11 (dk_at dksJ20_nextEntry_0 6 rfl rfl)
theorem dJ20_nextEntry_9 : decode cJ20_nextEntry 9 = .ok (.new 29, 3) := dk_187 0 29 (dk_at dksJ20_nextEntry_0 9 rfl rfl)
theorem dJ20_nextEntry_12 : decode cJ20_nextEntry 12 = .ok (.dup, 1) := dk_89 (dk_at dksJ20_nextEntry_0 12 rfl rfl)
theorem dJ20_nextEntry_13 : decode cJ20_nextEntry 13 = .ok (.invokespecial 31, 3) := dk_183 0 31 (dk_at dksJ20_nextEntry_0 13 rfl rfl)
theorem dJ20_nextEntry_16 : decode cJ20_nextEntry 16 = .ok (.athrow, 1) := dk_191 (dk_at dksJ20_nextEntry_0 16 rfl rfl)
theorem dJ20_nextEntry_17 : decode cJ20_nextEntry 17 = .ok (.aload_n 0, 1) := dk_42 (dk_at dksJ20_nextEntry_0 17 rfl rfl)
theorem dJ20_nextEntry_18 : decode cJ20_nextEntry 18 = .ok (.getfield 1, 3) := dk_180 0 1 (dk_at dksJ20_nextEntry_0 18 rfl rfl)
theorem dJ20_nextEntry_21 : decode cJ20_nextEntry 21 = .ok (.getfield 13, 3) := dk_180 0 13 (dk_at dksJ20_nextEntry_0 21 rfl rfl)
theorem dJ20_nextEntry_24 : decode cJ20_nextEntry 24 = .ok (.aload_n 0, 1) := dk_42 (dk_at dksJ20_nextEntry_1 0 rfl rfl)
theorem dJ20_nextEntry_25 : decode cJ20_nextEntry 25 = .ok (.getfield 19, 3) := dk_180 0 19 (dk_at dksJ20_nextEntry_1 1 rfl rfl)
theorem dJ20_nextEntry_28 : decode cJ20_nextEntry 28 = .ok (.if_icmp .eq 11, 3) := dk_159 0 11 (dk_at dksJ20_nextEntry_1 4 rfl rfl)
theorem dJ20_nextEntry_31 : decode cJ20_nextEntry 31 = .ok (.new 32, 3) := dk_187 0 32 (dk_at dksJ20_nextEntry_1 7 rfl rfl)
theorem dJ20_nextEntry_34 : decode cJ20_nextEntry 34 = .ok (.dup, 1) := dk_89 (dk_at dksJ20_nextEntry_1 10 rfl rfl)
theorem dJ20_nextEntry_35 : decode cJ20_nextEntry 35 = .ok (.invokespecial 34, 3) := dk_183 0 34 (dk_at dksJ20_nextEntry_1 11 rfl rfl)
theorem dJ20_nextEntry_38 : decode cJ20_nextEntry 38 = .ok (.athrow, 1) := dk_191 (dk_at dksJ20_nextEntry_1 14 rfl rfl)
theorem dJ20_nextEntry_39 : decode cJ20_nextEntry 39 = .ok (.aload_n 0, 1) := dk_42 (dk_at dksJ20_nextEntry_1 15 rfl rfl)
theorem dJ20_nextEntry_40 : decode cJ20_nextEntry 40 = .ok (.aload_n 1, 1) := dk_43 (dk_at dksJ20_nextEntry_1 16 rfl rfl)
theorem dJ20_nextEntry_41 : decode cJ20_nextEntry 41 = .ok (.invokestatic 35, 3) := dk_184 0 35 (dk_at dksJ20_nextEntry_1 17 rfl rfl)
theorem dJ20_nextEntry_44 : decode cJ20_nextEntry 44 = .ok (.putfield 26, 3) := dk_181 0 26 (dk_at dksJ20_nextEntry_1 20 rfl rfl)
theorem dJ20_nextEntry_47 : decode cJ20_nextEntry 47 = .ok (.aload_n 0, 1) := dk_42 (dk_at dksJ20_nextEntry_1 23 rfl rfl)
theorem dJ20_nextEntry_48 : decode cJ20_nextEntry 48 = .ok (.aload_n 1, 1) := dk_43 (dk_at dksJ20_nextEntry_2 0 rfl rfl)
theorem dJ20_nextEntry_49 : decode cJ20_nextEntry 49 = .ok (.putfield 22, 3) := dk_181 0 22 (dk_at dksJ20_nextEntry_2 1 rfl rfl)
theorem dJ20_nextEntry_52 : decode cJ20_nextEntry 52 = .ok (.aload_n 1, 1) := dk_43 (dk_at dksJ20_nextEntry_2 4 rfl rfl)
theorem dJ20_nextEntry_53 : decode cJ20_nextEntry 53 = .ok (.areturn, 1) := dk_176 (dk_at dksJ20_nextEntry_2 5 rfl rfl)
abbrev cJ20_hasNext : ByteArray := prog_86_method_2_code
def yJ20_hasNext : MethodName := ⟨RJ20, "hasNext", "()Z"⟩
def dkwJ20_hasNext_0 : List UInt8 := [42, 180, 0, 26, 198, 0, 7, 4, 167, 0, 4, 3, 172]
abbrev dktJ20_hasNext_0 : List UInt8 := dkwJ20_hasNext_0 ++ []
theorem dksJ20_hasNext_0 : cJ20_hasNext.data.toList.drop 0 = dktJ20_hasNext_0 := by decide +kernel
theorem dJ20_hasNext_0 : decode cJ20_hasNext 0 = .ok (.aload_n 0, 1) := dk_42 (dk_at dksJ20_hasNext_0 0 rfl rfl)
theorem dJ20_hasNext_1 : decode cJ20_hasNext 1 = .ok (.getfield 26, 3) := dk_180 0 26 (dk_at dksJ20_hasNext_0 1 rfl rfl)
theorem dJ20_hasNext_4 : decode cJ20_hasNext 4 = .ok (.ifnull 7, 3) := dk_198 0 7 (dk_at dksJ20_hasNext_0 4 rfl rfl)
theorem dJ20_hasNext_7 : decode cJ20_hasNext 7 = .ok (.iconst 1, 1) := dk_4 (dk_at dksJ20_hasNext_0 7 rfl rfl)
theorem dJ20_hasNext_8 : decode cJ20_hasNext 8 = .ok (.goto 4, 3) := dk_167 0 4 (dk_at dksJ20_hasNext_0 8 rfl rfl)
theorem dJ20_hasNext_11 : decode cJ20_hasNext 11 = .ok (.iconst 0, 1) := dk_3 (dk_at dksJ20_hasNext_0 11 rfl rfl)
theorem dJ20_hasNext_12 : decode cJ20_hasNext 12 = .ok (.ireturn, 1) := dk_172 (dk_at dksJ20_hasNext_0 12 rfl rfl)
abbrev cJ21_init : ByteArray := prog_84_method_1_code
def yJ21_init : MethodName := ⟨RJ21, "<init>", "(Ljava/util/TreeMap;Ljava/util/TreeMap$Entry;)V"⟩
def dkwJ21_init_0 : List UInt8 := [42, 43, 44, 183, 0, 1, 177]
abbrev dktJ21_init_0 : List UInt8 := dkwJ21_init_0 ++ []
theorem dksJ21_init_0 : cJ21_init.data.toList.drop 0 = dktJ21_init_0 := by decide +kernel
theorem dJ21_init_0 : decode cJ21_init 0 = .ok (.aload_n 0, 1) := dk_42 (dk_at dksJ21_init_0 0 rfl rfl)
theorem dJ21_init_1 : decode cJ21_init 1 = .ok (.aload_n 1, 1) := dk_43 (dk_at dksJ21_init_0 1 rfl rfl)
theorem dJ21_init_2 : decode cJ21_init 2 = .ok (.aload_n 2, 1) := dk_44 (dk_at dksJ21_init_0 2 rfl rfl)
theorem dJ21_init_3 : decode cJ21_init 3 = .ok (.invokespecial 1, 3) := dk_183 0 1 (dk_at dksJ21_init_0 3 rfl rfl)
theorem dJ21_init_6 : decode cJ21_init 6 = .ok (.return_, 1) := dk_177 (dk_at dksJ21_init_0 6 rfl rfl)
abbrev cJ21_next : ByteArray := prog_84_method_3_code
def yJ21_next : MethodName := ⟨RJ21, "next", "()Ljava/lang/Object;"⟩
theorem dJ21_next_0 : decode cJ21_next 0 = .ok (.aload_n 0, 1) := by decide +kernel
theorem dJ21_next_1 : decode cJ21_next 1 = .ok (.invokevirtual 13, 3) := by decide +kernel
theorem dJ21_next_4 : decode cJ21_next 4 = .ok (.areturn, 1) := by decide +kernel
abbrev cJ21_next_2 : ByteArray := prog_84_method_2_code
def yJ21_next_2 : MethodName := ⟨RJ21, "next", "()Ljava/util/Map$Entry;"⟩
theorem dJ21_next_2_0 : decode cJ21_next_2 0 = .ok (.aload_n 0, 1) := by decide +kernel
theorem dJ21_next_2_1 : decode cJ21_next_2 1 = .ok (.invokevirtual 7, 3) := by decide +kernel
theorem dJ21_next_2_4 : decode cJ21_next_2 4 = .ok (.areturn, 1) := by decide +kernel
abbrev cJ22_init : ByteArray := prog_33_method_1_code
def yJ22_init : MethodName := ⟨RJ22, "<init>", "()V"⟩
theorem dJ22_init_0 : decode cJ22_init 0 = .ok (.aload_n 0, 1) := by decide +kernel
theorem dJ22_init_1 : decode cJ22_init 1 = .ok (.invokespecial 1, 3) := by decide +kernel
theorem dJ22_init_4 : decode cJ22_init 4 = .ok (.return_, 1) := by decide +kernel
abbrev cJ23_equals : ByteArray := prog_28_method_34_code
def yJ23_equals : MethodName := ⟨RJ23, "equals", "(Ljava/lang/Object;)Z"⟩
def dkwJ23_equals_1 : List UInt8 := [167, 0, 4, 3, 172, 3, 172]
abbrev dktJ23_equals_1 : List UInt8 := dkwJ23_equals_1 ++ []
def dkwJ23_equals_0 : List UInt8 := [43, 193, 0, 1, 153, 0, 23, 42, 180, 0, 205, 43, 192, 0, 1, 182, 0, 211, 160, 0, 7, 4]
abbrev dktJ23_equals_0 : List UInt8 := dkwJ23_equals_0 ++ dktJ23_equals_1
theorem dksJ23_equals_0 : cJ23_equals.data.toList.drop 0 = dktJ23_equals_0 := by decide +kernel
theorem dksJ23_equals_1 : cJ23_equals.data.toList.drop 22 = dktJ23_equals_1 := dk_seg dksJ23_equals_0 22 rfl rfl
theorem dJ23_equals_0 : decode cJ23_equals 0 = .ok (.aload_n 1, 1) := dk_43 (dk_at dksJ23_equals_0 0 rfl rfl)
theorem dJ23_equals_1 : decode cJ23_equals 1 = .ok (.instanceof 1, 3) := dk_193 0 1 (dk_at dksJ23_equals_0 1 rfl rfl)
theorem dJ23_equals_4 : decode cJ23_equals 4 = .ok (.ifCond .eq 23, 3) := dk_153 0 23 (dk_at dksJ23_equals_0 4 rfl rfl)
theorem dJ23_equals_7 : decode cJ23_equals 7 = .ok (.aload_n 0, 1) := dk_42 (dk_at dksJ23_equals_0 7 rfl rfl)
theorem dJ23_equals_8 : decode cJ23_equals 8 = .ok (.getfield 205, 3) := dk_180 0 205 (dk_at dksJ23_equals_0 8 rfl rfl)
theorem dJ23_equals_11 : decode cJ23_equals 11 = .ok (.aload_n 1, 1) := dk_43 (dk_at dksJ23_equals_0 11 rfl rfl)
theorem dJ23_equals_12 : decode cJ23_equals 12 = .ok (.checkcast 1, 3) := dk_192 0 1 (dk_at dksJ23_equals_0 12 rfl rfl)
theorem dJ23_equals_15 : decode cJ23_equals 15 = .ok (.invokevirtual 211, 3) := dk_182 0 211 (dk_at dksJ23_equals_0 15 rfl rfl)
theorem dJ23_equals_18 : decode cJ23_equals 18 = .ok (.if_icmp .ne 7, 3) := dk_160 0 7 (dk_at dksJ23_equals_0 18 rfl rfl)
theorem dJ23_equals_21 : decode cJ23_equals 21 = .ok (.iconst 1, 1) := dk_4 (dk_at dksJ23_equals_0 21 rfl rfl)
theorem dJ23_equals_22 : decode cJ23_equals 22 = .ok (.goto 4, 3) := dk_167 0 4 (dk_at dksJ23_equals_1 0 rfl rfl)
theorem dJ23_equals_25 : decode cJ23_equals 25 = .ok (.iconst 0, 1) := dk_3 (dk_at dksJ23_equals_1 3 rfl rfl)
theorem dJ23_equals_26 : decode cJ23_equals 26 = .ok (.ireturn, 1) := dk_172 (dk_at dksJ23_equals_1 4 rfl rfl)
theorem dJ23_equals_27 : decode cJ23_equals 27 = .ok (.iconst 0, 1) := dk_3 (dk_at dksJ23_equals_1 5 rfl rfl)
theorem dJ23_equals_28 : decode cJ23_equals 28 = .ok (.ireturn, 1) := dk_172 (dk_at dksJ23_equals_1 6 rfl rfl)
abbrev cJ23_intValue : ByteArray := prog_28_method_27_code
def yJ23_intValue : MethodName := ⟨RJ23, "intValue", "()I"⟩
theorem dJ23_intValue_0 : decode cJ23_intValue 0 = .ok (.aload_n 0, 1) := by decide +kernel
theorem dJ23_intValue_1 : decode cJ23_intValue 1 = .ok (.getfield 205, 3) := by decide +kernel
theorem dJ23_intValue_4 : decode cJ23_intValue 4 = .ok (.ireturn, 1) := by decide +kernel
abbrev cJ23_numberOfLeadingZeros : ByteArray := prog_28_method_47_code
def yJ23_numberOfLeadingZeros : MethodName := ⟨RJ23, "numberOfLeadingZeros", "(I)I"⟩
def dkwJ23_numberOfLeadingZeros_3 : List UInt8 := [5, 124, 59, 27, 26, 4, 124, 100, 172]
abbrev dktJ23_numberOfLeadingZeros_3 : List UInt8 := dkwJ23_numberOfLeadingZeros_3 ++ []
def dkwJ23_numberOfLeadingZeros_2 : List UInt8 := [124, 59, 26, 16, 16, 161, 0, 10, 132, 1, 252, 26, 7, 124, 59, 26, 7, 161, 0, 10, 132, 1, 254, 26]
abbrev dktJ23_numberOfLeadingZeros_2 : List UInt8 := dkwJ23_numberOfLeadingZeros_2 ++ dktJ23_numberOfLeadingZeros_3
def dkwJ23_numberOfLeadingZeros_1 : List UInt8 := [161, 0, 11, 132, 1, 240, 26, 16, 16, 124, 59, 26, 17, 1, 0, 161, 0, 11, 132, 1, 248, 26, 16, 8]
abbrev dktJ23_numberOfLeadingZeros_1 : List UInt8 := dkwJ23_numberOfLeadingZeros_1 ++ dktJ23_numberOfLeadingZeros_2
def dkwJ23_numberOfLeadingZeros_0 : List UInt8 := [26, 157, 0, 14, 26, 154, 0, 8, 16, 32, 167, 0, 4, 3, 172, 16, 31, 60, 26, 19, 1, 8]
abbrev dktJ23_numberOfLeadingZeros_0 : List UInt8 := dkwJ23_numberOfLeadingZeros_0 ++ dktJ23_numberOfLeadingZeros_1
theorem dksJ23_numberOfLeadingZeros_0 : cJ23_numberOfLeadingZeros.data.toList.drop 0 = dktJ23_numberOfLeadingZeros_0 := by decide +kernel
theorem dksJ23_numberOfLeadingZeros_1 : cJ23_numberOfLeadingZeros.data.toList.drop 22 = dktJ23_numberOfLeadingZeros_1 := dk_seg dksJ23_numberOfLeadingZeros_0 22 rfl rfl
theorem dksJ23_numberOfLeadingZeros_2 : cJ23_numberOfLeadingZeros.data.toList.drop 46 = dktJ23_numberOfLeadingZeros_2 := dk_seg dksJ23_numberOfLeadingZeros_1 24 rfl rfl
theorem dksJ23_numberOfLeadingZeros_3 : cJ23_numberOfLeadingZeros.data.toList.drop 70 = dktJ23_numberOfLeadingZeros_3 := dk_seg dksJ23_numberOfLeadingZeros_2 24 rfl rfl
theorem dJ23_numberOfLeadingZeros_0 : decode cJ23_numberOfLeadingZeros 0 = .ok (.iload_n 0, 1) := dk_26 (dk_at dksJ23_numberOfLeadingZeros_0 0 rfl rfl)
theorem dJ23_numberOfLeadingZeros_1 : decode cJ23_numberOfLeadingZeros 1 = .ok (.ifCond .gt 14, 3) := dk_157 0 14 (dk_at dksJ23_numberOfLeadingZeros_0 1 rfl rfl)
theorem dJ23_numberOfLeadingZeros_4 : decode cJ23_numberOfLeadingZeros 4 = .ok (.iload_n 0, 1) := dk_26 (dk_at dksJ23_numberOfLeadingZeros_0 4 rfl rfl)
theorem dJ23_numberOfLeadingZeros_5 : decode cJ23_numberOfLeadingZeros 5 = .ok (.ifCond .ne 8, 3) := dk_154 0 8 (dk_at dksJ23_numberOfLeadingZeros_0 5 rfl rfl)
theorem dJ23_numberOfLeadingZeros_8 : decode cJ23_numberOfLeadingZeros 8 = .ok (.bipush 32, 2) := dk_16 32 (dk_at dksJ23_numberOfLeadingZeros_0 8 rfl rfl)
theorem dJ23_numberOfLeadingZeros_10 : decode cJ23_numberOfLeadingZeros 10 = .ok (.goto 4, 3) := dk_167 0 4 (dk_at dksJ23_numberOfLeadingZeros_0 10 rfl rfl)
theorem dJ23_numberOfLeadingZeros_13 : decode cJ23_numberOfLeadingZeros 13 = .ok (.iconst 0, 1) := dk_3 (dk_at dksJ23_numberOfLeadingZeros_0 13 rfl rfl)
theorem dJ23_numberOfLeadingZeros_14 : decode cJ23_numberOfLeadingZeros 14 = .ok (.ireturn, 1) := dk_172 (dk_at dksJ23_numberOfLeadingZeros_0 14 rfl rfl)
theorem dJ23_numberOfLeadingZeros_15 : decode cJ23_numberOfLeadingZeros 15 = .ok (.bipush 31, 2) := dk_16 31 (dk_at dksJ23_numberOfLeadingZeros_0 15 rfl rfl)
theorem dJ23_numberOfLeadingZeros_17 : decode cJ23_numberOfLeadingZeros 17 = .ok (.istore_n 1, 1) := dk_60 (dk_at dksJ23_numberOfLeadingZeros_0 17 rfl rfl)
theorem dJ23_numberOfLeadingZeros_18 : decode cJ23_numberOfLeadingZeros 18 = .ok (.iload_n 0, 1) := dk_26 (dk_at dksJ23_numberOfLeadingZeros_0 18 rfl rfl)
theorem dJ23_numberOfLeadingZeros_19 : decode cJ23_numberOfLeadingZeros 19 = .ok (.ldc_w 264, 3) := dk_19 1 8 (dk_at dksJ23_numberOfLeadingZeros_0 19 rfl rfl)
theorem dJ23_numberOfLeadingZeros_22 : decode cJ23_numberOfLeadingZeros 22 = .ok (.if_icmp .lt 11, 3) := dk_161 0 11 (dk_at dksJ23_numberOfLeadingZeros_1 0 rfl rfl)
theorem dJ23_numberOfLeadingZeros_25 : decode cJ23_numberOfLeadingZeros 25 = .ok (.iinc 1 (-16), 3) := dk_132 1 240 (dk_at dksJ23_numberOfLeadingZeros_1 3 rfl rfl)
theorem dJ23_numberOfLeadingZeros_28 : decode cJ23_numberOfLeadingZeros 28 = .ok (.iload_n 0, 1) := dk_26 (dk_at dksJ23_numberOfLeadingZeros_1 6 rfl rfl)
theorem dJ23_numberOfLeadingZeros_29 : decode cJ23_numberOfLeadingZeros 29 = .ok (.bipush 16, 2) := dk_16 16 (dk_at dksJ23_numberOfLeadingZeros_1 7 rfl rfl)
theorem dJ23_numberOfLeadingZeros_31 : decode cJ23_numberOfLeadingZeros 31 = .ok (.iushr, 1) := dk_124 (dk_at dksJ23_numberOfLeadingZeros_1 9 rfl rfl)
theorem dJ23_numberOfLeadingZeros_32 : decode cJ23_numberOfLeadingZeros 32 = .ok (.istore_n 0, 1) := dk_59 (dk_at dksJ23_numberOfLeadingZeros_1 10 rfl rfl)
theorem dJ23_numberOfLeadingZeros_33 : decode cJ23_numberOfLeadingZeros 33 = .ok (.iload_n 0, 1) := dk_26 (dk_at dksJ23_numberOfLeadingZeros_1 11 rfl rfl)
theorem dJ23_numberOfLeadingZeros_34 : decode cJ23_numberOfLeadingZeros 34 = .ok (.sipush 256, 3) := dk_17 1 0 (dk_at dksJ23_numberOfLeadingZeros_1 12 rfl rfl)
theorem dJ23_numberOfLeadingZeros_37 : decode cJ23_numberOfLeadingZeros 37 = .ok (.if_icmp .lt 11, 3) := dk_161 0 11 (dk_at dksJ23_numberOfLeadingZeros_1 15 rfl rfl)
theorem dJ23_numberOfLeadingZeros_40 : decode cJ23_numberOfLeadingZeros 40 = .ok (.iinc 1 (-8), 3) := dk_132 1 248 (dk_at dksJ23_numberOfLeadingZeros_1 18 rfl rfl)
theorem dJ23_numberOfLeadingZeros_43 : decode cJ23_numberOfLeadingZeros 43 = .ok (.iload_n 0, 1) := dk_26 (dk_at dksJ23_numberOfLeadingZeros_1 21 rfl rfl)
theorem dJ23_numberOfLeadingZeros_44 : decode cJ23_numberOfLeadingZeros 44 = .ok (.bipush 8, 2) := dk_16 8 (dk_at dksJ23_numberOfLeadingZeros_1 22 rfl rfl)
theorem dJ23_numberOfLeadingZeros_46 : decode cJ23_numberOfLeadingZeros 46 = .ok (.iushr, 1) := dk_124 (dk_at dksJ23_numberOfLeadingZeros_2 0 rfl rfl)
theorem dJ23_numberOfLeadingZeros_47 : decode cJ23_numberOfLeadingZeros 47 = .ok (.istore_n 0, 1) := dk_59 (dk_at dksJ23_numberOfLeadingZeros_2 1 rfl rfl)
theorem dJ23_numberOfLeadingZeros_48 : decode cJ23_numberOfLeadingZeros 48 = .ok (.iload_n 0, 1) := dk_26 (dk_at dksJ23_numberOfLeadingZeros_2 2 rfl rfl)
theorem dJ23_numberOfLeadingZeros_49 : decode cJ23_numberOfLeadingZeros 49 = .ok (.bipush 16, 2) := dk_16 16 (dk_at dksJ23_numberOfLeadingZeros_2 3 rfl rfl)
theorem dJ23_numberOfLeadingZeros_51 : decode cJ23_numberOfLeadingZeros 51 = .ok (.if_icmp .lt 10, 3) := dk_161 0 10 (dk_at dksJ23_numberOfLeadingZeros_2 5 rfl rfl)
theorem dJ23_numberOfLeadingZeros_54 : decode cJ23_numberOfLeadingZeros 54 = .ok (.iinc 1 (-4), 3) := dk_132 1 252 (dk_at dksJ23_numberOfLeadingZeros_2 8 rfl rfl)
theorem dJ23_numberOfLeadingZeros_57 : decode cJ23_numberOfLeadingZeros 57 = .ok (.iload_n 0, 1) := dk_26 (dk_at dksJ23_numberOfLeadingZeros_2 11 rfl rfl)
theorem dJ23_numberOfLeadingZeros_58 : decode cJ23_numberOfLeadingZeros 58 = .ok (.iconst 4, 1) := dk_7 (dk_at dksJ23_numberOfLeadingZeros_2 12 rfl rfl)
theorem dJ23_numberOfLeadingZeros_59 : decode cJ23_numberOfLeadingZeros 59 = .ok (.iushr, 1) := dk_124 (dk_at dksJ23_numberOfLeadingZeros_2 13 rfl rfl)
theorem dJ23_numberOfLeadingZeros_60 : decode cJ23_numberOfLeadingZeros 60 = .ok (.istore_n 0, 1) := dk_59 (dk_at dksJ23_numberOfLeadingZeros_2 14 rfl rfl)
theorem dJ23_numberOfLeadingZeros_61 : decode cJ23_numberOfLeadingZeros 61 = .ok (.iload_n 0, 1) := dk_26 (dk_at dksJ23_numberOfLeadingZeros_2 15 rfl rfl)
theorem dJ23_numberOfLeadingZeros_62 : decode cJ23_numberOfLeadingZeros 62 = .ok (.iconst 4, 1) := dk_7 (dk_at dksJ23_numberOfLeadingZeros_2 16 rfl rfl)
theorem dJ23_numberOfLeadingZeros_63 : decode cJ23_numberOfLeadingZeros 63 = .ok (.if_icmp .lt 10, 3) := dk_161 0 10 (dk_at dksJ23_numberOfLeadingZeros_2 17 rfl rfl)
theorem dJ23_numberOfLeadingZeros_66 : decode cJ23_numberOfLeadingZeros 66 = .ok (.iinc 1 (-2), 3) := dk_132 1 254 (dk_at dksJ23_numberOfLeadingZeros_2 20 rfl rfl)
theorem dJ23_numberOfLeadingZeros_69 : decode cJ23_numberOfLeadingZeros 69 = .ok (.iload_n 0, 1) := dk_26 (dk_at dksJ23_numberOfLeadingZeros_2 23 rfl rfl)
theorem dJ23_numberOfLeadingZeros_70 : decode cJ23_numberOfLeadingZeros 70 = .ok (.iconst 2, 1) := dk_5 (dk_at dksJ23_numberOfLeadingZeros_3 0 rfl rfl)
theorem dJ23_numberOfLeadingZeros_71 : decode cJ23_numberOfLeadingZeros 71 = .ok (.iushr, 1) := dk_124 (dk_at dksJ23_numberOfLeadingZeros_3 1 rfl rfl)
theorem dJ23_numberOfLeadingZeros_72 : decode cJ23_numberOfLeadingZeros 72 = .ok (.istore_n 0, 1) := dk_59 (dk_at dksJ23_numberOfLeadingZeros_3 2 rfl rfl)
theorem dJ23_numberOfLeadingZeros_73 : decode cJ23_numberOfLeadingZeros 73 = .ok (.iload_n 1, 1) := dk_27 (dk_at dksJ23_numberOfLeadingZeros_3 3 rfl rfl)
theorem dJ23_numberOfLeadingZeros_74 : decode cJ23_numberOfLeadingZeros 74 = .ok (.iload_n 0, 1) := dk_26 (dk_at dksJ23_numberOfLeadingZeros_3 4 rfl rfl)
theorem dJ23_numberOfLeadingZeros_75 : decode cJ23_numberOfLeadingZeros 75 = .ok (.iconst 1, 1) := dk_4 (dk_at dksJ23_numberOfLeadingZeros_3 5 rfl rfl)
theorem dJ23_numberOfLeadingZeros_76 : decode cJ23_numberOfLeadingZeros 76 = .ok (.iushr, 1) := dk_124 (dk_at dksJ23_numberOfLeadingZeros_3 6 rfl rfl)
theorem dJ23_numberOfLeadingZeros_77 : decode cJ23_numberOfLeadingZeros 77 = .ok (.isub, 1) := dk_100 (dk_at dksJ23_numberOfLeadingZeros_3 7 rfl rfl)
theorem dJ23_numberOfLeadingZeros_78 : decode cJ23_numberOfLeadingZeros 78 = .ok (.ireturn, 1) := dk_172 (dk_at dksJ23_numberOfLeadingZeros_3 8 rfl rfl)
abbrev cJ23_stringSize : ByteArray := prog_28_method_13_code
def yJ23_stringSize : MethodName := ⟨RJ23, "stringSize", "(I)I"⟩
def dkwJ23_stringSize_1 : List UInt8 := [164, 0, 7, 29, 27, 96, 172, 16, 10, 28, 104, 61, 132, 3, 1, 167, 255, 233, 16, 10, 27, 96, 172]
abbrev dktJ23_stringSize_1 : List UInt8 := dkwJ23_stringSize_1 ++ []
def dkwJ23_stringSize_0 : List UInt8 := [4, 60, 26, 155, 0, 8, 3, 60, 26, 116, 59, 16, 246, 61, 4, 62, 29, 16, 10, 162, 0, 23, 26, 28]
abbrev dktJ23_stringSize_0 : List UInt8 := dkwJ23_stringSize_0 ++ dktJ23_stringSize_1
theorem dksJ23_stringSize_0 : cJ23_stringSize.data.toList.drop 0 = dktJ23_stringSize_0 := by decide +kernel
theorem dksJ23_stringSize_1 : cJ23_stringSize.data.toList.drop 24 = dktJ23_stringSize_1 := dk_seg dksJ23_stringSize_0 24 rfl rfl
theorem dJ23_stringSize_0 : decode cJ23_stringSize 0 = .ok (.iconst 1, 1) := dk_4 (dk_at dksJ23_stringSize_0 0 rfl rfl)
theorem dJ23_stringSize_1 : decode cJ23_stringSize 1 = .ok (.istore_n 1, 1) := dk_60 (dk_at dksJ23_stringSize_0 1 rfl rfl)
theorem dJ23_stringSize_2 : decode cJ23_stringSize 2 = .ok (.iload_n 0, 1) := dk_26 (dk_at dksJ23_stringSize_0 2 rfl rfl)
theorem dJ23_stringSize_3 : decode cJ23_stringSize 3 = .ok (.ifCond .lt 8, 3) := dk_155 0 8 (dk_at dksJ23_stringSize_0 3 rfl rfl)
theorem dJ23_stringSize_6 : decode cJ23_stringSize 6 = .ok (.iconst 0, 1) := dk_3 (dk_at dksJ23_stringSize_0 6 rfl rfl)
theorem dJ23_stringSize_7 : decode cJ23_stringSize 7 = .ok (.istore_n 1, 1) := dk_60 (dk_at dksJ23_stringSize_0 7 rfl rfl)
theorem dJ23_stringSize_8 : decode cJ23_stringSize 8 = .ok (.iload_n 0, 1) := dk_26 (dk_at dksJ23_stringSize_0 8 rfl rfl)
theorem dJ23_stringSize_9 : decode cJ23_stringSize 9 = .ok (.ineg, 1) := dk_116 (dk_at dksJ23_stringSize_0 9 rfl rfl)
theorem dJ23_stringSize_10 : decode cJ23_stringSize 10 = .ok (.istore_n 0, 1) := dk_59 (dk_at dksJ23_stringSize_0 10 rfl rfl)
theorem dJ23_stringSize_11 : decode cJ23_stringSize 11 = .ok (.bipush (-10), 2) := dk_16 246 (dk_at dksJ23_stringSize_0 11 rfl rfl)
theorem dJ23_stringSize_13 : decode cJ23_stringSize 13 = .ok (.istore_n 2, 1) := dk_61 (dk_at dksJ23_stringSize_0 13 rfl rfl)
theorem dJ23_stringSize_14 : decode cJ23_stringSize 14 = .ok (.iconst 1, 1) := dk_4 (dk_at dksJ23_stringSize_0 14 rfl rfl)
theorem dJ23_stringSize_15 : decode cJ23_stringSize 15 = .ok (.istore_n 3, 1) := dk_62 (dk_at dksJ23_stringSize_0 15 rfl rfl)
theorem dJ23_stringSize_16 : decode cJ23_stringSize 16 = .ok (.iload_n 3, 1) := dk_29 (dk_at dksJ23_stringSize_0 16 rfl rfl)
theorem dJ23_stringSize_17 : decode cJ23_stringSize 17 = .ok (.bipush 10, 2) := dk_16 10 (dk_at dksJ23_stringSize_0 17 rfl rfl)
theorem dJ23_stringSize_19 : decode cJ23_stringSize 19 = .ok (.if_icmp .ge 23, 3) := dk_162 0 23 (dk_at dksJ23_stringSize_0 19 rfl rfl)
theorem dJ23_stringSize_22 : decode cJ23_stringSize 22 = .ok (.iload_n 0, 1) := dk_26 (dk_at dksJ23_stringSize_0 22 rfl rfl)
theorem dJ23_stringSize_23 : decode cJ23_stringSize 23 = .ok (.iload_n 2, 1) := dk_28 (dk_at dksJ23_stringSize_0 23 rfl rfl)
theorem dJ23_stringSize_24 : decode cJ23_stringSize 24 = .ok (.if_icmp .le 7, 3) := dk_164 0 7 (dk_at dksJ23_stringSize_1 0 rfl rfl)
theorem dJ23_stringSize_27 : decode cJ23_stringSize 27 = .ok (.iload_n 3, 1) := dk_29 (dk_at dksJ23_stringSize_1 3 rfl rfl)
theorem dJ23_stringSize_28 : decode cJ23_stringSize 28 = .ok (.iload_n 1, 1) := dk_27 (dk_at dksJ23_stringSize_1 4 rfl rfl)
theorem dJ23_stringSize_29 : decode cJ23_stringSize 29 = .ok (.iadd, 1) := dk_96 (dk_at dksJ23_stringSize_1 5 rfl rfl)
theorem dJ23_stringSize_30 : decode cJ23_stringSize 30 = .ok (.ireturn, 1) := dk_172 (dk_at dksJ23_stringSize_1 6 rfl rfl)
theorem dJ23_stringSize_31 : decode cJ23_stringSize 31 = .ok (.bipush 10, 2) := dk_16 10 (dk_at dksJ23_stringSize_1 7 rfl rfl)
theorem dJ23_stringSize_33 : decode cJ23_stringSize 33 = .ok (.iload_n 2, 1) := dk_28 (dk_at dksJ23_stringSize_1 9 rfl rfl)
theorem dJ23_stringSize_34 : decode cJ23_stringSize 34 = .ok (.imul, 1) := dk_104 (dk_at dksJ23_stringSize_1 10 rfl rfl)
theorem dJ23_stringSize_35 : decode cJ23_stringSize 35 = .ok (.istore_n 2, 1) := dk_61 (dk_at dksJ23_stringSize_1 11 rfl rfl)
theorem dJ23_stringSize_36 : decode cJ23_stringSize 36 = .ok (.iinc 3 1, 3) := dk_132 3 1 (dk_at dksJ23_stringSize_1 12 rfl rfl)
theorem dJ23_stringSize_39 : decode cJ23_stringSize 39 = .ok (.goto (-23), 3) := dk_167 255 233 (dk_at dksJ23_stringSize_1 15 rfl rfl)
theorem dJ23_stringSize_42 : decode cJ23_stringSize 42 = .ok (.bipush 10, 2) := dk_16 10 (dk_at dksJ23_stringSize_1 18 rfl rfl)
theorem dJ23_stringSize_44 : decode cJ23_stringSize 44 = .ok (.iload_n 1, 1) := dk_27 (dk_at dksJ23_stringSize_1 20 rfl rfl)
theorem dJ23_stringSize_45 : decode cJ23_stringSize 45 = .ok (.iadd, 1) := dk_96 (dk_at dksJ23_stringSize_1 21 rfl rfl)
theorem dJ23_stringSize_46 : decode cJ23_stringSize 46 = .ok (.ireturn, 1) := dk_172 (dk_at dksJ23_stringSize_1 22 rfl rfl)
abbrev cJ23_getChars : ByteArray := prog_28_method_12_code
def yJ23_getChars : MethodName := ⟨RJ23, "getChars", "(II[B)I"⟩
def dkwJ23_getChars_5 : List UInt8 := [16, 45, 84, 21, 5, 172]
abbrev dktJ23_getChars_5 : List UInt8 := dkwJ23_getChars_5 ++ []
def dkwJ23_getChars_4 : List UInt8 := [132, 5, 255, 21, 5, 178, 0, 87, 26, 116, 51, 84, 21, 6, 153, 0, 12, 44, 132, 5, 255, 21, 5]
abbrev dktJ23_getChars_4 : List UInt8 := dkwJ23_getChars_4 ++ dktJ23_getChars_5
def dkwJ23_getChars_3 : List UInt8 := [167, 255, 209, 44, 132, 5, 255, 21, 5, 178, 0, 83, 26, 116, 51, 84, 26, 16, 247, 162, 0, 16, 44]
abbrev dktJ23_getChars_3 : List UInt8 := dkwJ23_getChars_3 ++ dktJ23_getChars_4
def dkwJ23_getChars_2 : List UInt8 := [21, 5, 178, 0, 83, 21, 4, 51, 84, 44, 132, 5, 255, 21, 5, 178, 0, 87, 21, 4, 51, 84]
abbrev dktJ23_getChars_2 : List UInt8 := dkwJ23_getChars_2 ++ dktJ23_getChars_3
def dkwJ23_getChars_1 : List UInt8 := [16, 156, 163, 0, 47, 26, 16, 100, 108, 62, 29, 16, 100, 104, 26, 100, 54, 4, 29, 59, 44, 132, 5, 255]
abbrev dktJ23_getChars_1 : List UInt8 := dkwJ23_getChars_1 ++ dktJ23_getChars_2
def dkwJ23_getChars_0 : List UInt8 := [27, 54, 5, 26, 156, 0, 7, 4, 167, 0, 4, 3, 54, 6, 21, 6, 154, 0, 6, 26, 116, 59, 26]
abbrev dktJ23_getChars_0 : List UInt8 := dkwJ23_getChars_0 ++ dktJ23_getChars_1
theorem dksJ23_getChars_0 : cJ23_getChars.data.toList.drop 0 = dktJ23_getChars_0 := by decide +kernel
theorem dksJ23_getChars_1 : cJ23_getChars.data.toList.drop 23 = dktJ23_getChars_1 := dk_seg dksJ23_getChars_0 23 rfl rfl
theorem dksJ23_getChars_2 : cJ23_getChars.data.toList.drop 47 = dktJ23_getChars_2 := dk_seg dksJ23_getChars_1 24 rfl rfl
theorem dksJ23_getChars_3 : cJ23_getChars.data.toList.drop 69 = dktJ23_getChars_3 := dk_seg dksJ23_getChars_2 22 rfl rfl
theorem dksJ23_getChars_4 : cJ23_getChars.data.toList.drop 92 = dktJ23_getChars_4 := dk_seg dksJ23_getChars_3 23 rfl rfl
theorem dksJ23_getChars_5 : cJ23_getChars.data.toList.drop 115 = dktJ23_getChars_5 := dk_seg dksJ23_getChars_4 23 rfl rfl
theorem dJ23_getChars_0 : decode cJ23_getChars 0 = .ok (.iload_n 1, 1) := dk_27 (dk_at dksJ23_getChars_0 0 rfl rfl)
theorem dJ23_getChars_1 : decode cJ23_getChars 1 = .ok (.istore 5, 2) := dk_54 5 (dk_at dksJ23_getChars_0 1 rfl rfl)
theorem dJ23_getChars_3 : decode cJ23_getChars 3 = .ok (.iload_n 0, 1) := dk_26 (dk_at dksJ23_getChars_0 3 rfl rfl)
theorem dJ23_getChars_4 : decode cJ23_getChars 4 = .ok (.ifCond .ge 7, 3) := dk_156 0 7 (dk_at dksJ23_getChars_0 4 rfl rfl)
theorem dJ23_getChars_7 : decode cJ23_getChars 7 = .ok (.iconst 1, 1) := dk_4 (dk_at dksJ23_getChars_0 7 rfl rfl)
theorem dJ23_getChars_8 : decode cJ23_getChars 8 = .ok (.goto 4, 3) := dk_167 0 4 (dk_at dksJ23_getChars_0 8 rfl rfl)
theorem dJ23_getChars_11 : decode cJ23_getChars 11 = .ok (.iconst 0, 1) := dk_3 (dk_at dksJ23_getChars_0 11 rfl rfl)
theorem dJ23_getChars_12 : decode cJ23_getChars 12 = .ok (.istore 6, 2) := dk_54 6 (dk_at dksJ23_getChars_0 12 rfl rfl)
theorem dJ23_getChars_14 : decode cJ23_getChars 14 = .ok (.iload 6, 2) := dk_21 6 (dk_at dksJ23_getChars_0 14 rfl rfl)
theorem dJ23_getChars_16 : decode cJ23_getChars 16 = .ok (.ifCond .ne 6, 3) := dk_154 0 6 (dk_at dksJ23_getChars_0 16 rfl rfl)
theorem dJ23_getChars_19 : decode cJ23_getChars 19 = .ok (.iload_n 0, 1) := dk_26 (dk_at dksJ23_getChars_0 19 rfl rfl)
theorem dJ23_getChars_20 : decode cJ23_getChars 20 = .ok (.ineg, 1) := dk_116 (dk_at dksJ23_getChars_0 20 rfl rfl)
theorem dJ23_getChars_21 : decode cJ23_getChars 21 = .ok (.istore_n 0, 1) := dk_59 (dk_at dksJ23_getChars_0 21 rfl rfl)
theorem dJ23_getChars_22 : decode cJ23_getChars 22 = .ok (.iload_n 0, 1) := dk_26 (dk_at dksJ23_getChars_0 22 rfl rfl)
theorem dJ23_getChars_23 : decode cJ23_getChars 23 = .ok (.bipush (-100), 2) := dk_16 156 (dk_at dksJ23_getChars_1 0 rfl rfl)
theorem dJ23_getChars_25 : decode cJ23_getChars 25 = .ok (.if_icmp .gt 47, 3) := dk_163 0 47 (dk_at dksJ23_getChars_1 2 rfl rfl)
theorem dJ23_getChars_28 : decode cJ23_getChars 28 = .ok (.iload_n 0, 1) := dk_26 (dk_at dksJ23_getChars_1 5 rfl rfl)
theorem dJ23_getChars_29 : decode cJ23_getChars 29 = .ok (.bipush 100, 2) := dk_16 100 (dk_at dksJ23_getChars_1 6 rfl rfl)
theorem dJ23_getChars_31 : decode cJ23_getChars 31 = .ok (.idiv, 1) := dk_108 (dk_at dksJ23_getChars_1 8 rfl rfl)
theorem dJ23_getChars_32 : decode cJ23_getChars 32 = .ok (.istore_n 3, 1) := dk_62 (dk_at dksJ23_getChars_1 9 rfl rfl)
theorem dJ23_getChars_33 : decode cJ23_getChars 33 = .ok (.iload_n 3, 1) := dk_29 (dk_at dksJ23_getChars_1 10 rfl rfl)
theorem dJ23_getChars_34 : decode cJ23_getChars 34 = .ok (.bipush 100, 2) := dk_16 100 (dk_at dksJ23_getChars_1 11 rfl rfl)
theorem dJ23_getChars_36 : decode cJ23_getChars 36 = .ok (.imul, 1) := dk_104 (dk_at dksJ23_getChars_1 13 rfl rfl)
theorem dJ23_getChars_37 : decode cJ23_getChars 37 = .ok (.iload_n 0, 1) := dk_26 (dk_at dksJ23_getChars_1 14 rfl rfl)
theorem dJ23_getChars_38 : decode cJ23_getChars 38 = .ok (.isub, 1) := dk_100 (dk_at dksJ23_getChars_1 15 rfl rfl)
theorem dJ23_getChars_39 : decode cJ23_getChars 39 = .ok (.istore 4, 2) := dk_54 4 (dk_at dksJ23_getChars_1 16 rfl rfl)
theorem dJ23_getChars_41 : decode cJ23_getChars 41 = .ok (.iload_n 3, 1) := dk_29 (dk_at dksJ23_getChars_1 18 rfl rfl)
theorem dJ23_getChars_42 : decode cJ23_getChars 42 = .ok (.istore_n 0, 1) := dk_59 (dk_at dksJ23_getChars_1 19 rfl rfl)
theorem dJ23_getChars_43 : decode cJ23_getChars 43 = .ok (.aload_n 2, 1) := dk_44 (dk_at dksJ23_getChars_1 20 rfl rfl)
theorem dJ23_getChars_44 : decode cJ23_getChars 44 = .ok (.iinc 5 (-1), 3) := dk_132 5 255 (dk_at dksJ23_getChars_1 21 rfl rfl)
theorem dJ23_getChars_47 : decode cJ23_getChars 47 = .ok (.iload 5, 2) := dk_21 5 (dk_at dksJ23_getChars_2 0 rfl rfl)
theorem dJ23_getChars_49 : decode cJ23_getChars 49 = .ok (.getstatic 83, 3) := dk_178 0 83 (dk_at dksJ23_getChars_2 2 rfl rfl)
theorem dJ23_getChars_52 : decode cJ23_getChars 52 = .ok (.iload 4, 2) := dk_21 4 (dk_at dksJ23_getChars_2 5 rfl rfl)
theorem dJ23_getChars_54 : decode cJ23_getChars 54 = .ok (.baload, 1) := dk_51 (dk_at dksJ23_getChars_2 7 rfl rfl)
theorem dJ23_getChars_55 : decode cJ23_getChars 55 = .ok (.bastore, 1) := dk_84 (dk_at dksJ23_getChars_2 8 rfl rfl)
theorem dJ23_getChars_56 : decode cJ23_getChars 56 = .ok (.aload_n 2, 1) := dk_44 (dk_at dksJ23_getChars_2 9 rfl rfl)
theorem dJ23_getChars_57 : decode cJ23_getChars 57 = .ok (.iinc 5 (-1), 3) := dk_132 5 255 (dk_at dksJ23_getChars_2 10 rfl rfl)
theorem dJ23_getChars_60 : decode cJ23_getChars 60 = .ok (.iload 5, 2) := dk_21 5 (dk_at dksJ23_getChars_2 13 rfl rfl)
theorem dJ23_getChars_62 : decode cJ23_getChars 62 = .ok (.getstatic 87, 3) := dk_178 0 87 (dk_at dksJ23_getChars_2 15 rfl rfl)
theorem dJ23_getChars_65 : decode cJ23_getChars 65 = .ok (.iload 4, 2) := dk_21 4 (dk_at dksJ23_getChars_2 18 rfl rfl)
theorem dJ23_getChars_67 : decode cJ23_getChars 67 = .ok (.baload, 1) := dk_51 (dk_at dksJ23_getChars_2 20 rfl rfl)
theorem dJ23_getChars_68 : decode cJ23_getChars 68 = .ok (.bastore, 1) := dk_84 (dk_at dksJ23_getChars_2 21 rfl rfl)
theorem dJ23_getChars_69 : decode cJ23_getChars 69 = .ok (.goto (-47), 3) := dk_167 255 209 (dk_at dksJ23_getChars_3 0 rfl rfl)
theorem dJ23_getChars_72 : decode cJ23_getChars 72 = .ok (.aload_n 2, 1) := dk_44 (dk_at dksJ23_getChars_3 3 rfl rfl)
theorem dJ23_getChars_73 : decode cJ23_getChars 73 = .ok (.iinc 5 (-1), 3) := dk_132 5 255 (dk_at dksJ23_getChars_3 4 rfl rfl)
theorem dJ23_getChars_76 : decode cJ23_getChars 76 = .ok (.iload 5, 2) := dk_21 5 (dk_at dksJ23_getChars_3 7 rfl rfl)
theorem dJ23_getChars_78 : decode cJ23_getChars 78 = .ok (.getstatic 83, 3) := dk_178 0 83 (dk_at dksJ23_getChars_3 9 rfl rfl)
theorem dJ23_getChars_81 : decode cJ23_getChars 81 = .ok (.iload_n 0, 1) := dk_26 (dk_at dksJ23_getChars_3 12 rfl rfl)
theorem dJ23_getChars_82 : decode cJ23_getChars 82 = .ok (.ineg, 1) := dk_116 (dk_at dksJ23_getChars_3 13 rfl rfl)
theorem dJ23_getChars_83 : decode cJ23_getChars 83 = .ok (.baload, 1) := dk_51 (dk_at dksJ23_getChars_3 14 rfl rfl)
theorem dJ23_getChars_84 : decode cJ23_getChars 84 = .ok (.bastore, 1) := dk_84 (dk_at dksJ23_getChars_3 15 rfl rfl)
theorem dJ23_getChars_85 : decode cJ23_getChars 85 = .ok (.iload_n 0, 1) := dk_26 (dk_at dksJ23_getChars_3 16 rfl rfl)
theorem dJ23_getChars_86 : decode cJ23_getChars 86 = .ok (.bipush (-9), 2) := dk_16 247 (dk_at dksJ23_getChars_3 17 rfl rfl)
theorem dJ23_getChars_88 : decode cJ23_getChars 88 = .ok (.if_icmp .ge 16, 3) := dk_162 0 16 (dk_at dksJ23_getChars_3 19 rfl rfl)
theorem dJ23_getChars_91 : decode cJ23_getChars 91 = .ok (.aload_n 2, 1) := dk_44 (dk_at dksJ23_getChars_3 22 rfl rfl)
theorem dJ23_getChars_92 : decode cJ23_getChars 92 = .ok (.iinc 5 (-1), 3) := dk_132 5 255 (dk_at dksJ23_getChars_4 0 rfl rfl)
theorem dJ23_getChars_95 : decode cJ23_getChars 95 = .ok (.iload 5, 2) := dk_21 5 (dk_at dksJ23_getChars_4 3 rfl rfl)
theorem dJ23_getChars_97 : decode cJ23_getChars 97 = .ok (.getstatic 87, 3) := dk_178 0 87 (dk_at dksJ23_getChars_4 5 rfl rfl)
theorem dJ23_getChars_100 : decode cJ23_getChars 100 = .ok (.iload_n 0, 1) := dk_26 (dk_at dksJ23_getChars_4 8 rfl rfl)
theorem dJ23_getChars_101 : decode cJ23_getChars 101 = .ok (.ineg, 1) := dk_116 (dk_at dksJ23_getChars_4 9 rfl rfl)
theorem dJ23_getChars_102 : decode cJ23_getChars 102 = .ok (.baload, 1) := dk_51 (dk_at dksJ23_getChars_4 10 rfl rfl)
theorem dJ23_getChars_103 : decode cJ23_getChars 103 = .ok (.bastore, 1) := dk_84 (dk_at dksJ23_getChars_4 11 rfl rfl)
theorem dJ23_getChars_104 : decode cJ23_getChars 104 = .ok (.iload 6, 2) := dk_21 6 (dk_at dksJ23_getChars_4 12 rfl rfl)
theorem dJ23_getChars_106 : decode cJ23_getChars 106 = .ok (.ifCond .eq 12, 3) := dk_153 0 12 (dk_at dksJ23_getChars_4 14 rfl rfl)
theorem dJ23_getChars_109 : decode cJ23_getChars 109 = .ok (.aload_n 2, 1) := dk_44 (dk_at dksJ23_getChars_4 17 rfl rfl)
theorem dJ23_getChars_110 : decode cJ23_getChars 110 = .ok (.iinc 5 (-1), 3) := dk_132 5 255 (dk_at dksJ23_getChars_4 18 rfl rfl)
theorem dJ23_getChars_113 : decode cJ23_getChars 113 = .ok (.iload 5, 2) := dk_21 5 (dk_at dksJ23_getChars_4 21 rfl rfl)
theorem dJ23_getChars_115 : decode cJ23_getChars 115 = .ok (.bipush 45, 2) := dk_16 45 (dk_at dksJ23_getChars_5 0 rfl rfl)
theorem dJ23_getChars_117 : decode cJ23_getChars 117 = .ok (.bastore, 1) := dk_84 (dk_at dksJ23_getChars_5 2 rfl rfl)
theorem dJ23_getChars_118 : decode cJ23_getChars 118 = .ok (.iload 5, 2) := dk_21 5 (dk_at dksJ23_getChars_5 3 rfl rfl)
theorem dJ23_getChars_120 : decode cJ23_getChars 120 = .ok (.ireturn, 1) := dk_172 (dk_at dksJ23_getChars_5 5 rfl rfl)
abbrev cJ23_compareTo : ByteArray := prog_28_method_63_code
def yJ23_compareTo : MethodName := ⟨RJ23, "compareTo", "(Ljava/lang/Object;)I"⟩
def dkwJ23_compareTo_0 : List UInt8 := [42, 43, 192, 0, 1, 182, 1, 28, 172]
abbrev dktJ23_compareTo_0 : List UInt8 := dkwJ23_compareTo_0 ++ []
theorem dksJ23_compareTo_0 : cJ23_compareTo.data.toList.drop 0 = dktJ23_compareTo_0 := by decide +kernel
theorem dJ23_compareTo_0 : decode cJ23_compareTo 0 = .ok (.aload_n 0, 1) := dk_42 (dk_at dksJ23_compareTo_0 0 rfl rfl)
theorem dJ23_compareTo_1 : decode cJ23_compareTo 1 = .ok (.aload_n 1, 1) := dk_43 (dk_at dksJ23_compareTo_0 1 rfl rfl)
theorem dJ23_compareTo_2 : decode cJ23_compareTo 2 = .ok (.checkcast 1, 3) := dk_192 0 1 (dk_at dksJ23_compareTo_0 2 rfl rfl)
theorem dJ23_compareTo_5 : decode cJ23_compareTo 5 = .ok (.invokevirtual 284, 3) := dk_182 1 28 (dk_at dksJ23_compareTo_0 5 rfl rfl)
theorem dJ23_compareTo_8 : decode cJ23_compareTo 8 = .ok (.ireturn, 1) := dk_172 (dk_at dksJ23_compareTo_0 8 rfl rfl)
abbrev cJ23_compareTo_2 : ByteArray := prog_28_method_39_code
def yJ23_compareTo_2 : MethodName := ⟨RJ23, "compareTo", "(Ljava/lang/Integer;)I"⟩
def dkwJ23_compareTo_2_0 : List UInt8 := [42, 180, 0, 205, 43, 180, 0, 205, 184, 1, 3, 172]
abbrev dktJ23_compareTo_2_0 : List UInt8 := dkwJ23_compareTo_2_0 ++ []
theorem dksJ23_compareTo_2_0 : cJ23_compareTo_2.data.toList.drop 0 = dktJ23_compareTo_2_0 := by decide +kernel
theorem dJ23_compareTo_2_0 : decode cJ23_compareTo_2 0 = .ok (.aload_n 0, 1) := dk_42 (dk_at dksJ23_compareTo_2_0 0 rfl rfl)
theorem dJ23_compareTo_2_1 : decode cJ23_compareTo_2 1 = .ok (.getfield 205, 3) := dk_180 0 205 (dk_at dksJ23_compareTo_2_0 1 rfl rfl)
theorem dJ23_compareTo_2_4 : decode cJ23_compareTo_2 4 = .ok (.aload_n 1, 1) := dk_43 (dk_at dksJ23_compareTo_2_0 4 rfl rfl)
theorem dJ23_compareTo_2_5 : decode cJ23_compareTo_2 5 = .ok (.getfield 205, 3) := dk_180 0 205 (dk_at dksJ23_compareTo_2_0 5 rfl rfl)
theorem dJ23_compareTo_2_8 : decode cJ23_compareTo_2 8 = .ok (.invokestatic 259, 3) := dk_184 1 3 (dk_at dksJ23_compareTo_2_0 8 rfl rfl)
theorem dJ23_compareTo_2_11 : decode cJ23_compareTo_2 11 = .ok (.ireturn, 1) := dk_172 (dk_at dksJ23_compareTo_2_0 11 rfl rfl)
abbrev cJ23_compare : ByteArray := prog_28_method_40_code
def yJ23_compare : MethodName := ⟨RJ23, "compare", "(II)I"⟩
def dkwJ23_compare_0 : List UInt8 := [26, 27, 162, 0, 7, 2, 167, 0, 13, 26, 27, 160, 0, 7, 3, 167, 0, 4, 4, 172]
abbrev dktJ23_compare_0 : List UInt8 := dkwJ23_compare_0 ++ []
theorem dksJ23_compare_0 : cJ23_compare.data.toList.drop 0 = dktJ23_compare_0 := by decide +kernel
theorem dJ23_compare_0 : decode cJ23_compare 0 = .ok (.iload_n 0, 1) := dk_26 (dk_at dksJ23_compare_0 0 rfl rfl)
theorem dJ23_compare_1 : decode cJ23_compare 1 = .ok (.iload_n 1, 1) := dk_27 (dk_at dksJ23_compare_0 1 rfl rfl)
theorem dJ23_compare_2 : decode cJ23_compare 2 = .ok (.if_icmp .ge 7, 3) := dk_162 0 7 (dk_at dksJ23_compare_0 2 rfl rfl)
theorem dJ23_compare_5 : decode cJ23_compare 5 = .ok (.iconst (-1), 1) := dk_2 (dk_at dksJ23_compare_0 5 rfl rfl)
theorem dJ23_compare_6 : decode cJ23_compare 6 = .ok (.goto 13, 3) := dk_167 0 13 (dk_at dksJ23_compare_0 6 rfl rfl)
theorem dJ23_compare_9 : decode cJ23_compare 9 = .ok (.iload_n 0, 1) := dk_26 (dk_at dksJ23_compare_0 9 rfl rfl)
theorem dJ23_compare_10 : decode cJ23_compare 10 = .ok (.iload_n 1, 1) := dk_27 (dk_at dksJ23_compare_0 10 rfl rfl)
theorem dJ23_compare_11 : decode cJ23_compare 11 = .ok (.if_icmp .ne 7, 3) := dk_160 0 7 (dk_at dksJ23_compare_0 11 rfl rfl)
theorem dJ23_compare_14 : decode cJ23_compare 14 = .ok (.iconst 0, 1) := dk_3 (dk_at dksJ23_compare_0 14 rfl rfl)
theorem dJ23_compare_15 : decode cJ23_compare 15 = .ok (.goto 4, 3) := dk_167 0 4 (dk_at dksJ23_compare_0 15 rfl rfl)
theorem dJ23_compare_18 : decode cJ23_compare 18 = .ok (.iconst 1, 1) := dk_4 (dk_at dksJ23_compare_0 18 rfl rfl)
theorem dJ23_compare_19 : decode cJ23_compare 19 = .ok (.ireturn, 1) := dk_172 (dk_at dksJ23_compare_0 19 rfl rfl)
abbrev cJ23_numberOfTrailingZeros : ByteArray := prog_28_method_48_code
def yJ23_numberOfTrailingZeros : MethodName := ⟨RJ23, "numberOfTrailingZeros", "(I)I"⟩
def dkwJ23_numberOfTrailingZeros_3 : List UInt8 := [5, 124, 59, 27, 26, 4, 124, 96, 172]
abbrev dktJ23_numberOfTrailingZeros_3 : List UInt8 := dkwJ23_numberOfTrailingZeros_3 ++ []
def dkwJ23_numberOfTrailingZeros_2 : List UInt8 := [124, 59, 26, 16, 16, 164, 0, 10, 132, 1, 4, 26, 7, 124, 59, 26, 7, 164, 0, 10, 132, 1, 2, 26]
abbrev dktJ23_numberOfTrailingZeros_2 : List UInt8 := dkwJ23_numberOfTrailingZeros_2 ++ dktJ23_numberOfTrailingZeros_3
def dkwJ23_numberOfTrailingZeros_1 : List UInt8 := [164, 0, 11, 132, 1, 16, 26, 16, 16, 124, 59, 26, 17, 1, 0, 164, 0, 11, 132, 1, 8, 26, 16, 8]
abbrev dktJ23_numberOfTrailingZeros_1 : List UInt8 := dkwJ23_numberOfTrailingZeros_1 ++ dktJ23_numberOfTrailingZeros_2
def dkwJ23_numberOfTrailingZeros_0 : List UInt8 := [26, 2, 130, 26, 4, 100, 126, 59, 26, 157, 0, 8, 26, 16, 32, 126, 172, 4, 60, 26, 19, 1, 8]
abbrev dktJ23_numberOfTrailingZeros_0 : List UInt8 := dkwJ23_numberOfTrailingZeros_0 ++ dktJ23_numberOfTrailingZeros_1
theorem dksJ23_numberOfTrailingZeros_0 : cJ23_numberOfTrailingZeros.data.toList.drop 0 = dktJ23_numberOfTrailingZeros_0 := by decide +kernel
theorem dksJ23_numberOfTrailingZeros_1 : cJ23_numberOfTrailingZeros.data.toList.drop 23 = dktJ23_numberOfTrailingZeros_1 := dk_seg dksJ23_numberOfTrailingZeros_0 23 rfl rfl
theorem dksJ23_numberOfTrailingZeros_2 : cJ23_numberOfTrailingZeros.data.toList.drop 47 = dktJ23_numberOfTrailingZeros_2 := dk_seg dksJ23_numberOfTrailingZeros_1 24 rfl rfl
theorem dksJ23_numberOfTrailingZeros_3 : cJ23_numberOfTrailingZeros.data.toList.drop 71 = dktJ23_numberOfTrailingZeros_3 := dk_seg dksJ23_numberOfTrailingZeros_2 24 rfl rfl
theorem dJ23_numberOfTrailingZeros_0 : decode cJ23_numberOfTrailingZeros 0 = .ok (.iload_n 0, 1) := dk_26 (dk_at dksJ23_numberOfTrailingZeros_0 0 rfl rfl)
theorem dJ23_numberOfTrailingZeros_1 : decode cJ23_numberOfTrailingZeros 1 = .ok (.iconst (-1), 1) := dk_2 (dk_at dksJ23_numberOfTrailingZeros_0 1 rfl rfl)
theorem dJ23_numberOfTrailingZeros_2 : decode cJ23_numberOfTrailingZeros 2 = .ok (.ixor, 1) := dk_130 (dk_at dksJ23_numberOfTrailingZeros_0 2 rfl rfl)
theorem dJ23_numberOfTrailingZeros_3 : decode cJ23_numberOfTrailingZeros 3 = .ok (.iload_n 0, 1) := dk_26 (dk_at dksJ23_numberOfTrailingZeros_0 3 rfl rfl)
theorem dJ23_numberOfTrailingZeros_4 : decode cJ23_numberOfTrailingZeros 4 = .ok (.iconst 1, 1) := dk_4 (dk_at dksJ23_numberOfTrailingZeros_0 4 rfl rfl)
theorem dJ23_numberOfTrailingZeros_5 : decode cJ23_numberOfTrailingZeros 5 = .ok (.isub, 1) := dk_100 (dk_at dksJ23_numberOfTrailingZeros_0 5 rfl rfl)
theorem dJ23_numberOfTrailingZeros_6 : decode cJ23_numberOfTrailingZeros 6 = .ok (.iand, 1) := dk_126 (dk_at dksJ23_numberOfTrailingZeros_0 6 rfl rfl)
theorem dJ23_numberOfTrailingZeros_7 : decode cJ23_numberOfTrailingZeros 7 = .ok (.istore_n 0, 1) := dk_59 (dk_at dksJ23_numberOfTrailingZeros_0 7 rfl rfl)
theorem dJ23_numberOfTrailingZeros_8 : decode cJ23_numberOfTrailingZeros 8 = .ok (.iload_n 0, 1) := dk_26 (dk_at dksJ23_numberOfTrailingZeros_0 8 rfl rfl)
theorem dJ23_numberOfTrailingZeros_9 : decode cJ23_numberOfTrailingZeros 9 = .ok (.ifCond .gt 8, 3) := dk_157 0 8 (dk_at dksJ23_numberOfTrailingZeros_0 9 rfl rfl)
theorem dJ23_numberOfTrailingZeros_12 : decode cJ23_numberOfTrailingZeros 12 = .ok (.iload_n 0, 1) := dk_26 (dk_at dksJ23_numberOfTrailingZeros_0 12 rfl rfl)
theorem dJ23_numberOfTrailingZeros_13 : decode cJ23_numberOfTrailingZeros 13 = .ok (.bipush 32, 2) := dk_16 32 (dk_at dksJ23_numberOfTrailingZeros_0 13 rfl rfl)
theorem dJ23_numberOfTrailingZeros_15 : decode cJ23_numberOfTrailingZeros 15 = .ok (.iand, 1) := dk_126 (dk_at dksJ23_numberOfTrailingZeros_0 15 rfl rfl)
theorem dJ23_numberOfTrailingZeros_16 : decode cJ23_numberOfTrailingZeros 16 = .ok (.ireturn, 1) := dk_172 (dk_at dksJ23_numberOfTrailingZeros_0 16 rfl rfl)
theorem dJ23_numberOfTrailingZeros_17 : decode cJ23_numberOfTrailingZeros 17 = .ok (.iconst 1, 1) := dk_4 (dk_at dksJ23_numberOfTrailingZeros_0 17 rfl rfl)
theorem dJ23_numberOfTrailingZeros_18 : decode cJ23_numberOfTrailingZeros 18 = .ok (.istore_n 1, 1) := dk_60 (dk_at dksJ23_numberOfTrailingZeros_0 18 rfl rfl)
theorem dJ23_numberOfTrailingZeros_19 : decode cJ23_numberOfTrailingZeros 19 = .ok (.iload_n 0, 1) := dk_26 (dk_at dksJ23_numberOfTrailingZeros_0 19 rfl rfl)
theorem dJ23_numberOfTrailingZeros_20 : decode cJ23_numberOfTrailingZeros 20 = .ok (.ldc_w 264, 3) := dk_19 1 8 (dk_at dksJ23_numberOfTrailingZeros_0 20 rfl rfl)
theorem dJ23_numberOfTrailingZeros_23 : decode cJ23_numberOfTrailingZeros 23 = .ok (.if_icmp .le 11, 3) := dk_164 0 11 (dk_at dksJ23_numberOfTrailingZeros_1 0 rfl rfl)
theorem dJ23_numberOfTrailingZeros_26 : decode cJ23_numberOfTrailingZeros 26 = .ok (.iinc 1 16, 3) := dk_132 1 16 (dk_at dksJ23_numberOfTrailingZeros_1 3 rfl rfl)
theorem dJ23_numberOfTrailingZeros_29 : decode cJ23_numberOfTrailingZeros 29 = .ok (.iload_n 0, 1) := dk_26 (dk_at dksJ23_numberOfTrailingZeros_1 6 rfl rfl)
theorem dJ23_numberOfTrailingZeros_30 : decode cJ23_numberOfTrailingZeros 30 = .ok (.bipush 16, 2) := dk_16 16 (dk_at dksJ23_numberOfTrailingZeros_1 7 rfl rfl)
theorem dJ23_numberOfTrailingZeros_32 : decode cJ23_numberOfTrailingZeros 32 = .ok (.iushr, 1) := dk_124 (dk_at dksJ23_numberOfTrailingZeros_1 9 rfl rfl)
theorem dJ23_numberOfTrailingZeros_33 : decode cJ23_numberOfTrailingZeros 33 = .ok (.istore_n 0, 1) := dk_59 (dk_at dksJ23_numberOfTrailingZeros_1 10 rfl rfl)
theorem dJ23_numberOfTrailingZeros_34 : decode cJ23_numberOfTrailingZeros 34 = .ok (.iload_n 0, 1) := dk_26 (dk_at dksJ23_numberOfTrailingZeros_1 11 rfl rfl)
theorem dJ23_numberOfTrailingZeros_35 : decode cJ23_numberOfTrailingZeros 35 = .ok (.sipush 256, 3) := dk_17 1 0 (dk_at dksJ23_numberOfTrailingZeros_1 12 rfl rfl)
theorem dJ23_numberOfTrailingZeros_38 : decode cJ23_numberOfTrailingZeros 38 = .ok (.if_icmp .le 11, 3) := dk_164 0 11 (dk_at dksJ23_numberOfTrailingZeros_1 15 rfl rfl)
theorem dJ23_numberOfTrailingZeros_41 : decode cJ23_numberOfTrailingZeros 41 = .ok (.iinc 1 8, 3) := dk_132 1 8 (dk_at dksJ23_numberOfTrailingZeros_1 18 rfl rfl)
theorem dJ23_numberOfTrailingZeros_44 : decode cJ23_numberOfTrailingZeros 44 = .ok (.iload_n 0, 1) := dk_26 (dk_at dksJ23_numberOfTrailingZeros_1 21 rfl rfl)
theorem dJ23_numberOfTrailingZeros_45 : decode cJ23_numberOfTrailingZeros 45 = .ok (.bipush 8, 2) := dk_16 8 (dk_at dksJ23_numberOfTrailingZeros_1 22 rfl rfl)
theorem dJ23_numberOfTrailingZeros_47 : decode cJ23_numberOfTrailingZeros 47 = .ok (.iushr, 1) := dk_124 (dk_at dksJ23_numberOfTrailingZeros_2 0 rfl rfl)
theorem dJ23_numberOfTrailingZeros_48 : decode cJ23_numberOfTrailingZeros 48 = .ok (.istore_n 0, 1) := dk_59 (dk_at dksJ23_numberOfTrailingZeros_2 1 rfl rfl)
theorem dJ23_numberOfTrailingZeros_49 : decode cJ23_numberOfTrailingZeros 49 = .ok (.iload_n 0, 1) := dk_26 (dk_at dksJ23_numberOfTrailingZeros_2 2 rfl rfl)
theorem dJ23_numberOfTrailingZeros_50 : decode cJ23_numberOfTrailingZeros 50 = .ok (.bipush 16, 2) := dk_16 16 (dk_at dksJ23_numberOfTrailingZeros_2 3 rfl rfl)
theorem dJ23_numberOfTrailingZeros_52 : decode cJ23_numberOfTrailingZeros 52 = .ok (.if_icmp .le 10, 3) := dk_164 0 10 (dk_at dksJ23_numberOfTrailingZeros_2 5 rfl rfl)
theorem dJ23_numberOfTrailingZeros_55 : decode cJ23_numberOfTrailingZeros 55 = .ok (.iinc 1 4, 3) := dk_132 1 4 (dk_at dksJ23_numberOfTrailingZeros_2 8 rfl rfl)
theorem dJ23_numberOfTrailingZeros_58 : decode cJ23_numberOfTrailingZeros 58 = .ok (.iload_n 0, 1) := dk_26 (dk_at dksJ23_numberOfTrailingZeros_2 11 rfl rfl)
theorem dJ23_numberOfTrailingZeros_59 : decode cJ23_numberOfTrailingZeros 59 = .ok (.iconst 4, 1) := dk_7 (dk_at dksJ23_numberOfTrailingZeros_2 12 rfl rfl)
theorem dJ23_numberOfTrailingZeros_60 : decode cJ23_numberOfTrailingZeros 60 = .ok (.iushr, 1) := dk_124 (dk_at dksJ23_numberOfTrailingZeros_2 13 rfl rfl)
theorem dJ23_numberOfTrailingZeros_61 : decode cJ23_numberOfTrailingZeros 61 = .ok (.istore_n 0, 1) := dk_59 (dk_at dksJ23_numberOfTrailingZeros_2 14 rfl rfl)
theorem dJ23_numberOfTrailingZeros_62 : decode cJ23_numberOfTrailingZeros 62 = .ok (.iload_n 0, 1) := dk_26 (dk_at dksJ23_numberOfTrailingZeros_2 15 rfl rfl)
theorem dJ23_numberOfTrailingZeros_63 : decode cJ23_numberOfTrailingZeros 63 = .ok (.iconst 4, 1) := dk_7 (dk_at dksJ23_numberOfTrailingZeros_2 16 rfl rfl)
theorem dJ23_numberOfTrailingZeros_64 : decode cJ23_numberOfTrailingZeros 64 = .ok (.if_icmp .le 10, 3) := dk_164 0 10 (dk_at dksJ23_numberOfTrailingZeros_2 17 rfl rfl)
theorem dJ23_numberOfTrailingZeros_67 : decode cJ23_numberOfTrailingZeros 67 = .ok (.iinc 1 2, 3) := dk_132 1 2 (dk_at dksJ23_numberOfTrailingZeros_2 20 rfl rfl)
theorem dJ23_numberOfTrailingZeros_70 : decode cJ23_numberOfTrailingZeros 70 = .ok (.iload_n 0, 1) := dk_26 (dk_at dksJ23_numberOfTrailingZeros_2 23 rfl rfl)
theorem dJ23_numberOfTrailingZeros_71 : decode cJ23_numberOfTrailingZeros 71 = .ok (.iconst 2, 1) := dk_5 (dk_at dksJ23_numberOfTrailingZeros_3 0 rfl rfl)
theorem dJ23_numberOfTrailingZeros_72 : decode cJ23_numberOfTrailingZeros 72 = .ok (.iushr, 1) := dk_124 (dk_at dksJ23_numberOfTrailingZeros_3 1 rfl rfl)
theorem dJ23_numberOfTrailingZeros_73 : decode cJ23_numberOfTrailingZeros 73 = .ok (.istore_n 0, 1) := dk_59 (dk_at dksJ23_numberOfTrailingZeros_3 2 rfl rfl)
theorem dJ23_numberOfTrailingZeros_74 : decode cJ23_numberOfTrailingZeros 74 = .ok (.iload_n 1, 1) := dk_27 (dk_at dksJ23_numberOfTrailingZeros_3 3 rfl rfl)
theorem dJ23_numberOfTrailingZeros_75 : decode cJ23_numberOfTrailingZeros 75 = .ok (.iload_n 0, 1) := dk_26 (dk_at dksJ23_numberOfTrailingZeros_3 4 rfl rfl)
theorem dJ23_numberOfTrailingZeros_76 : decode cJ23_numberOfTrailingZeros 76 = .ok (.iconst 1, 1) := dk_4 (dk_at dksJ23_numberOfTrailingZeros_3 5 rfl rfl)
theorem dJ23_numberOfTrailingZeros_77 : decode cJ23_numberOfTrailingZeros 77 = .ok (.iushr, 1) := dk_124 (dk_at dksJ23_numberOfTrailingZeros_3 6 rfl rfl)
theorem dJ23_numberOfTrailingZeros_78 : decode cJ23_numberOfTrailingZeros 78 = .ok (.iadd, 1) := dk_96 (dk_at dksJ23_numberOfTrailingZeros_3 7 rfl rfl)
theorem dJ23_numberOfTrailingZeros_79 : decode cJ23_numberOfTrailingZeros 79 = .ok (.ireturn, 1) := dk_172 (dk_at dksJ23_numberOfTrailingZeros_3 8 rfl rfl)
abbrev cJ23_valueOf : ByteArray := prog_28_method_22_code
def yJ23_valueOf : MethodName := ⟨RJ23, "valueOf", "(I)Ljava/lang/Integer;"⟩
def dkwJ23_valueOf_1 : List UInt8 := [187, 0, 1, 89, 26, 183, 0, 199, 176]
abbrev dktJ23_valueOf_1 : List UInt8 := dkwJ23_valueOf_1 ++ []
def dkwJ23_valueOf_0 : List UInt8 := [26, 16, 128, 161, 0, 20, 26, 178, 0, 191, 163, 0, 13, 178, 0, 195, 26, 17, 0, 128, 96, 50, 176]
abbrev dktJ23_valueOf_0 : List UInt8 := dkwJ23_valueOf_0 ++ dktJ23_valueOf_1
theorem dksJ23_valueOf_0 : cJ23_valueOf.data.toList.drop 0 = dktJ23_valueOf_0 := by decide +kernel
theorem dksJ23_valueOf_1 : cJ23_valueOf.data.toList.drop 23 = dktJ23_valueOf_1 := dk_seg dksJ23_valueOf_0 23 rfl rfl
theorem dJ23_valueOf_0 : decode cJ23_valueOf 0 = .ok (.iload_n 0, 1) := dk_26 (dk_at dksJ23_valueOf_0 0 rfl rfl)
theorem dJ23_valueOf_1 : decode cJ23_valueOf 1 = .ok (.bipush (-128), 2) := dk_16 128 (dk_at dksJ23_valueOf_0 1 rfl rfl)
theorem dJ23_valueOf_3 : decode cJ23_valueOf 3 = .ok (.if_icmp .lt 20, 3) := dk_161 0 20 (dk_at dksJ23_valueOf_0 3 rfl rfl)
theorem dJ23_valueOf_6 : decode cJ23_valueOf 6 = .ok (.iload_n 0, 1) := dk_26 (dk_at dksJ23_valueOf_0 6 rfl rfl)
theorem dJ23_valueOf_7 : decode cJ23_valueOf 7 = .ok (.getstatic 191, 3) := dk_178 0 191 (dk_at dksJ23_valueOf_0 7 rfl rfl)
theorem dJ23_valueOf_10 : decode cJ23_valueOf 10 = .ok (.if_icmp .gt 13, 3) := dk_163 0 13 (dk_at dksJ23_valueOf_0 10 rfl rfl)
theorem dJ23_valueOf_13 : decode cJ23_valueOf 13 = .ok (.getstatic 195, 3) := dk_178 0 195 (dk_at dksJ23_valueOf_0 13 rfl rfl)
theorem dJ23_valueOf_16 : decode cJ23_valueOf 16 = .ok (.iload_n 0, 1) := dk_26 (dk_at dksJ23_valueOf_0 16 rfl rfl)
theorem dJ23_valueOf_17 : decode cJ23_valueOf 17 = .ok (.sipush 128, 3) := dk_17 0 128 (dk_at dksJ23_valueOf_0 17 rfl rfl)
theorem dJ23_valueOf_20 : decode cJ23_valueOf 20 = .ok (.iadd, 1) := dk_96 (dk_at dksJ23_valueOf_0 20 rfl rfl)
theorem dJ23_valueOf_21 : decode cJ23_valueOf 21 = .ok (.aaload, 1) := dk_50 (dk_at dksJ23_valueOf_0 21 rfl rfl)
theorem dJ23_valueOf_22 : decode cJ23_valueOf 22 = .ok (.areturn, 1) := dk_176 (dk_at dksJ23_valueOf_0 22 rfl rfl)
theorem dJ23_valueOf_23 : decode cJ23_valueOf 23 = .ok (.new 1, 3) := dk_187 0 1 (dk_at dksJ23_valueOf_1 0 rfl rfl)
theorem dJ23_valueOf_26 : decode cJ23_valueOf 26 = .ok (.dup, 1) := dk_89 (dk_at dksJ23_valueOf_1 3 rfl rfl)
theorem dJ23_valueOf_27 : decode cJ23_valueOf 27 = .ok (.iload_n 0, 1) := dk_26 (dk_at dksJ23_valueOf_1 4 rfl rfl)
theorem dJ23_valueOf_28 : decode cJ23_valueOf 28 = .ok (.invokespecial 199, 3) := dk_183 0 199 (dk_at dksJ23_valueOf_1 5 rfl rfl)
theorem dJ23_valueOf_31 : decode cJ23_valueOf 31 = .ok (.areturn, 1) := dk_176 (dk_at dksJ23_valueOf_1 8 rfl rfl)
abbrev cJ23_init : ByteArray := prog_28_method_23_code
def yJ23_init : MethodName := ⟨RJ23, "<init>", "(I)V"⟩
def dkwJ23_init_0 : List UInt8 := [42, 183, 0, 202, 42, 27, 181, 0, 205, 177]
abbrev dktJ23_init_0 : List UInt8 := dkwJ23_init_0 ++ []
theorem dksJ23_init_0 : cJ23_init.data.toList.drop 0 = dktJ23_init_0 := by decide +kernel
theorem dJ23_init_0 : decode cJ23_init 0 = .ok (.aload_n 0, 1) := dk_42 (dk_at dksJ23_init_0 0 rfl rfl)
theorem dJ23_init_1 : decode cJ23_init 1 = .ok (.invokespecial 202, 3) := dk_183 0 202 (dk_at dksJ23_init_0 1 rfl rfl)
theorem dJ23_init_4 : decode cJ23_init 4 = .ok (.aload_n 0, 1) := dk_42 (dk_at dksJ23_init_0 4 rfl rfl)
theorem dJ23_init_5 : decode cJ23_init 5 = .ok (.iload_n 1, 1) := dk_27 (dk_at dksJ23_init_0 5 rfl rfl)
theorem dJ23_init_6 : decode cJ23_init 6 = .ok (.putfield 205, 3) := dk_181 0 205 (dk_at dksJ23_init_0 6 rfl rfl)
theorem dJ23_init_9 : decode cJ23_init 9 = .ok (.return_, 1) := dk_177 (dk_at dksJ23_init_0 9 rfl rfl)
abbrev cJ24_checkIndex : ByteArray := prog_91_method_11_code
def yJ24_checkIndex : MethodName := ⟨RJ24, "checkIndex", "(IILjava/util/function/BiFunction;)I"⟩
def dkwJ24_checkIndex_0 : List UInt8 := [26, 155, 0, 8, 26, 27, 161, 0, 10, 44, 26, 27, 184, 0, 95, 191, 26, 172]
abbrev dktJ24_checkIndex_0 : List UInt8 := dkwJ24_checkIndex_0 ++ []
theorem dksJ24_checkIndex_0 : cJ24_checkIndex.data.toList.drop 0 = dktJ24_checkIndex_0 := by decide +kernel
theorem dJ24_checkIndex_0 : decode cJ24_checkIndex 0 = .ok (.iload_n 0, 1) := dk_26 (dk_at dksJ24_checkIndex_0 0 rfl rfl)
theorem dJ24_checkIndex_1 : decode cJ24_checkIndex 1 = .ok (.ifCond .lt 8, 3) := dk_155 0 8 (dk_at dksJ24_checkIndex_0 1 rfl rfl)
theorem dJ24_checkIndex_4 : decode cJ24_checkIndex 4 = .ok (.iload_n 0, 1) := dk_26 (dk_at dksJ24_checkIndex_0 4 rfl rfl)
theorem dJ24_checkIndex_5 : decode cJ24_checkIndex 5 = .ok (.iload_n 1, 1) := dk_27 (dk_at dksJ24_checkIndex_0 5 rfl rfl)
theorem dJ24_checkIndex_6 : decode cJ24_checkIndex 6 = .ok (.if_icmp .lt 10, 3) := dk_161 0 10 (dk_at dksJ24_checkIndex_0 6 rfl rfl)
theorem dJ24_checkIndex_9 : decode cJ24_checkIndex 9 = .ok (.aload_n 2, 1) := dk_44 (dk_at dksJ24_checkIndex_0 9 rfl rfl)
theorem dJ24_checkIndex_10 : decode cJ24_checkIndex 10 = .ok (.iload_n 0, 1) := dk_26 (dk_at dksJ24_checkIndex_0 10 rfl rfl)
theorem dJ24_checkIndex_11 : decode cJ24_checkIndex 11 = .ok (.iload_n 1, 1) := dk_27 (dk_at dksJ24_checkIndex_0 11 rfl rfl)
theorem dJ24_checkIndex_12 : decode cJ24_checkIndex 12 = .ok (.invokestatic 95, 3) := dk_184 0 95 (dk_at dksJ24_checkIndex_0 12 rfl rfl)
theorem dJ24_checkIndex_15 : decode cJ24_checkIndex 15 = .ok (.athrow, 1) := dk_191 (dk_at dksJ24_checkIndex_0 15 rfl rfl)
theorem dJ24_checkIndex_16 : decode cJ24_checkIndex 16 = .ok (.iload_n 0, 1) := dk_26 (dk_at dksJ24_checkIndex_0 16 rfl rfl)
theorem dJ24_checkIndex_17 : decode cJ24_checkIndex 17 = .ok (.ireturn, 1) := dk_172 (dk_at dksJ24_checkIndex_0 17 rfl rfl)
abbrev cJ24_checkFromToIndex : ByteArray := prog_91_method_12_code
def yJ24_checkFromToIndex : MethodName := ⟨RJ24, "checkFromToIndex", "(IIILjava/util/function/BiFunction;)I"⟩
def dkwJ24_checkFromToIndex_0 : List UInt8 := [26, 155, 0, 13, 26, 27, 163, 0, 8, 27, 28, 164, 0, 11, 45, 26, 27, 28, 184, 0, 99, 191, 26, 172]
abbrev dktJ24_checkFromToIndex_0 : List UInt8 := dkwJ24_checkFromToIndex_0 ++ []
theorem dksJ24_checkFromToIndex_0 : cJ24_checkFromToIndex.data.toList.drop 0 = dktJ24_checkFromToIndex_0 := by decide +kernel
theorem dJ24_checkFromToIndex_0 : decode cJ24_checkFromToIndex 0 = .ok (.iload_n 0, 1) := dk_26 (dk_at dksJ24_checkFromToIndex_0 0 rfl rfl)
theorem dJ24_checkFromToIndex_1 : decode cJ24_checkFromToIndex 1 = .ok (.ifCond .lt 13, 3) := dk_155 0 13 (dk_at dksJ24_checkFromToIndex_0 1 rfl rfl)
theorem dJ24_checkFromToIndex_4 : decode cJ24_checkFromToIndex 4 = .ok (.iload_n 0, 1) := dk_26 (dk_at dksJ24_checkFromToIndex_0 4 rfl rfl)
theorem dJ24_checkFromToIndex_5 : decode cJ24_checkFromToIndex 5 = .ok (.iload_n 1, 1) := dk_27 (dk_at dksJ24_checkFromToIndex_0 5 rfl rfl)
theorem dJ24_checkFromToIndex_6 : decode cJ24_checkFromToIndex 6 = .ok (.if_icmp .gt 8, 3) := dk_163 0 8 (dk_at dksJ24_checkFromToIndex_0 6 rfl rfl)
theorem dJ24_checkFromToIndex_9 : decode cJ24_checkFromToIndex 9 = .ok (.iload_n 1, 1) := dk_27 (dk_at dksJ24_checkFromToIndex_0 9 rfl rfl)
theorem dJ24_checkFromToIndex_10 : decode cJ24_checkFromToIndex 10 = .ok (.iload_n 2, 1) := dk_28 (dk_at dksJ24_checkFromToIndex_0 10 rfl rfl)
theorem dJ24_checkFromToIndex_11 : decode cJ24_checkFromToIndex 11 = .ok (.if_icmp .le 11, 3) := dk_164 0 11 (dk_at dksJ24_checkFromToIndex_0 11 rfl rfl)
theorem dJ24_checkFromToIndex_14 : decode cJ24_checkFromToIndex 14 = .ok (.aload_n 3, 1) := dk_45 (dk_at dksJ24_checkFromToIndex_0 14 rfl rfl)
theorem dJ24_checkFromToIndex_15 : decode cJ24_checkFromToIndex 15 = .ok (.iload_n 0, 1) := dk_26 (dk_at dksJ24_checkFromToIndex_0 15 rfl rfl)
theorem dJ24_checkFromToIndex_16 : decode cJ24_checkFromToIndex 16 = .ok (.iload_n 1, 1) := dk_27 (dk_at dksJ24_checkFromToIndex_0 16 rfl rfl)
theorem dJ24_checkFromToIndex_17 : decode cJ24_checkFromToIndex 17 = .ok (.iload_n 2, 1) := dk_28 (dk_at dksJ24_checkFromToIndex_0 17 rfl rfl)
theorem dJ24_checkFromToIndex_18 : decode cJ24_checkFromToIndex 18 = .ok (.invokestatic 99, 3) := dk_184 0 99 (dk_at dksJ24_checkFromToIndex_0 18 rfl rfl)
theorem dJ24_checkFromToIndex_21 : decode cJ24_checkFromToIndex 21 = .ok (.athrow, 1) := dk_191 (dk_at dksJ24_checkFromToIndex_0 21 rfl rfl)
theorem dJ24_checkFromToIndex_22 : decode cJ24_checkFromToIndex 22 = .ok (.iload_n 0, 1) := dk_26 (dk_at dksJ24_checkFromToIndex_0 22 rfl rfl)
theorem dJ24_checkFromToIndex_23 : decode cJ24_checkFromToIndex 23 = .ok (.ireturn, 1) := dk_172 (dk_at dksJ24_checkFromToIndex_0 23 rfl rfl)
abbrev cJ24_checkFromIndexSize : ByteArray := prog_91_method_13_code
def yJ24_checkFromIndexSize : MethodName := ⟨RJ24, "checkFromIndexSize", "(IIILjava/util/function/BiFunction;)I"⟩
def dkwJ24_checkFromIndexSize_1 : List UInt8 := [172]
abbrev dktJ24_checkFromIndexSize_1 : List UInt8 := dkwJ24_checkFromIndexSize_1 ++ []
def dkwJ24_checkFromIndexSize_0 : List UInt8 := [28, 26, 128, 27, 128, 155, 0, 10, 27, 28, 26, 100, 164, 0, 11, 45, 26, 27, 28, 184, 0, 103, 191, 26]
abbrev dktJ24_checkFromIndexSize_0 : List UInt8 := dkwJ24_checkFromIndexSize_0 ++ dktJ24_checkFromIndexSize_1
theorem dksJ24_checkFromIndexSize_0 : cJ24_checkFromIndexSize.data.toList.drop 0 = dktJ24_checkFromIndexSize_0 := by decide +kernel
theorem dksJ24_checkFromIndexSize_1 : cJ24_checkFromIndexSize.data.toList.drop 24 = dktJ24_checkFromIndexSize_1 := dk_seg dksJ24_checkFromIndexSize_0 24 rfl rfl
theorem dJ24_checkFromIndexSize_0 : decode cJ24_checkFromIndexSize 0 = .ok (.iload_n 2, 1) := dk_28 (dk_at dksJ24_checkFromIndexSize_0 0 rfl rfl)
theorem dJ24_checkFromIndexSize_1 : decode cJ24_checkFromIndexSize 1 = .ok (.iload_n 0, 1) := dk_26 (dk_at dksJ24_checkFromIndexSize_0 1 rfl rfl)
theorem dJ24_checkFromIndexSize_2 : decode cJ24_checkFromIndexSize 2 = .ok (.ior, 1) := dk_128 (dk_at dksJ24_checkFromIndexSize_0 2 rfl rfl)
theorem dJ24_checkFromIndexSize_3 : decode cJ24_checkFromIndexSize 3 = .ok (.iload_n 1, 1) := dk_27 (dk_at dksJ24_checkFromIndexSize_0 3 rfl rfl)
theorem dJ24_checkFromIndexSize_4 : decode cJ24_checkFromIndexSize 4 = .ok (.ior, 1) := dk_128 (dk_at dksJ24_checkFromIndexSize_0 4 rfl rfl)
theorem dJ24_checkFromIndexSize_5 : decode cJ24_checkFromIndexSize 5 = .ok (.ifCond .lt 10, 3) := dk_155 0 10 (dk_at dksJ24_checkFromIndexSize_0 5 rfl rfl)
theorem dJ24_checkFromIndexSize_8 : decode cJ24_checkFromIndexSize 8 = .ok (.iload_n 1, 1) := dk_27 (dk_at dksJ24_checkFromIndexSize_0 8 rfl rfl)
theorem dJ24_checkFromIndexSize_9 : decode cJ24_checkFromIndexSize 9 = .ok (.iload_n 2, 1) := dk_28 (dk_at dksJ24_checkFromIndexSize_0 9 rfl rfl)
theorem dJ24_checkFromIndexSize_10 : decode cJ24_checkFromIndexSize 10 = .ok (.iload_n 0, 1) := dk_26 (dk_at dksJ24_checkFromIndexSize_0 10 rfl rfl)
theorem dJ24_checkFromIndexSize_11 : decode cJ24_checkFromIndexSize 11 = .ok (.isub, 1) := dk_100 (dk_at dksJ24_checkFromIndexSize_0 11 rfl rfl)
theorem dJ24_checkFromIndexSize_12 : decode cJ24_checkFromIndexSize 12 = .ok (.if_icmp .le 11, 3) := dk_164 0 11 (dk_at dksJ24_checkFromIndexSize_0 12 rfl rfl)
theorem dJ24_checkFromIndexSize_15 : decode cJ24_checkFromIndexSize 15 = .ok (.aload_n 3, 1) := dk_45 (dk_at dksJ24_checkFromIndexSize_0 15 rfl rfl)
theorem dJ24_checkFromIndexSize_16 : decode cJ24_checkFromIndexSize 16 = .ok (.iload_n 0, 1) := dk_26 (dk_at dksJ24_checkFromIndexSize_0 16 rfl rfl)
theorem dJ24_checkFromIndexSize_17 : decode cJ24_checkFromIndexSize 17 = .ok (.iload_n 1, 1) := dk_27 (dk_at dksJ24_checkFromIndexSize_0 17 rfl rfl)
theorem dJ24_checkFromIndexSize_18 : decode cJ24_checkFromIndexSize 18 = .ok (.iload_n 2, 1) := dk_28 (dk_at dksJ24_checkFromIndexSize_0 18 rfl rfl)
theorem dJ24_checkFromIndexSize_19 : decode cJ24_checkFromIndexSize 19 = .ok (.invokestatic 103, 3) := dk_184 0 103 (dk_at dksJ24_checkFromIndexSize_0 19 rfl rfl)
theorem dJ24_checkFromIndexSize_22 : decode cJ24_checkFromIndexSize 22 = .ok (.athrow, 1) := dk_191 (dk_at dksJ24_checkFromIndexSize_0 22 rfl rfl)
theorem dJ24_checkFromIndexSize_23 : decode cJ24_checkFromIndexSize 23 = .ok (.iload_n 0, 1) := dk_26 (dk_at dksJ24_checkFromIndexSize_0 23 rfl rfl)
theorem dJ24_checkFromIndexSize_24 : decode cJ24_checkFromIndexSize 24 = .ok (.ireturn, 1) := dk_172 (dk_at dksJ24_checkFromIndexSize_1 0 rfl rfl)
abbrev cJ25_init : ByteArray := prog_42_method_1_code
def yJ25_init : MethodName := ⟨RJ25, "<init>", "()V"⟩
def dkwJ25_init_1 : List UInt8 := [182, 0, 27, 87, 177]
abbrev dktJ25_init_1 : List UInt8 := dkwJ25_init_1 ++ []
def dkwJ25_init_0 : List UInt8 := [42, 183, 0, 1, 42, 42, 181, 0, 7, 42, 178, 0, 13, 181, 0, 17, 42, 178, 0, 20, 181, 0, 24, 42]
abbrev dktJ25_init_0 : List UInt8 := dkwJ25_init_0 ++ dktJ25_init_1
theorem dksJ25_init_0 : cJ25_init.data.toList.drop 0 = dktJ25_init_0 := by decide +kernel
theorem dksJ25_init_1 : cJ25_init.data.toList.drop 24 = dktJ25_init_1 := dk_seg dksJ25_init_0 24 rfl rfl
theorem dJ25_init_0 : decode cJ25_init 0 = .ok (.aload_n 0, 1) := dk_42 (dk_at dksJ25_init_0 0 rfl rfl)
theorem dJ25_init_1 : decode cJ25_init 1 = .ok (.invokespecial 1, 3) := dk_183 0 1 (dk_at dksJ25_init_0 1 rfl rfl)
theorem dJ25_init_4 : decode cJ25_init 4 = .ok (.aload_n 0, 1) := dk_42 (dk_at dksJ25_init_0 4 rfl rfl)
theorem dJ25_init_5 : decode cJ25_init 5 = .ok (.aload_n 0, 1) := dk_42 (dk_at dksJ25_init_0 5 rfl rfl)
theorem dJ25_init_6 : decode cJ25_init 6 = .ok (.putfield 7, 3) := dk_181 0 7 (dk_at dksJ25_init_0 6 rfl rfl)
theorem dJ25_init_9 : decode cJ25_init 9 = .ok (.aload_n 0, 1) := dk_42 (dk_at dksJ25_init_0 9 rfl rfl)
theorem dJ25_init_10 : decode cJ25_init 10 = .ok (.getstatic 13, 3) := dk_178 0 13 (dk_at dksJ25_init_0 10 rfl rfl)
theorem dJ25_init_13 : decode cJ25_init 13 = .ok (.putfield 17, 3) := dk_181 0 17 (dk_at dksJ25_init_0 13 rfl rfl)
theorem dJ25_init_16 : decode cJ25_init 16 = .ok (.aload_n 0, 1) := dk_42 (dk_at dksJ25_init_0 16 rfl rfl)
theorem dJ25_init_17 : decode cJ25_init 17 = .ok (.getstatic 20, 3) := dk_178 0 20 (dk_at dksJ25_init_0 17 rfl rfl)
theorem dJ25_init_20 : decode cJ25_init 20 = .ok (.putfield 24, 3) := dk_181 0 24 (dk_at dksJ25_init_0 20 rfl rfl)
theorem dJ25_init_23 : decode cJ25_init 23 = .ok (.aload_n 0, 1) := dk_42 (dk_at dksJ25_init_0 23 rfl rfl)
theorem dJ25_init_24 : decode cJ25_init 24 = .ok (.invokevirtual 27, 3) := dk_182 0 27 (dk_at dksJ25_init_1 0 rfl rfl)
theorem dJ25_init_27 : decode cJ25_init 27 = .ok (.pop, 1) := dk_87 (dk_at dksJ25_init_1 3 rfl rfl)
theorem dJ25_init_28 : decode cJ25_init 28 = .ok (.return_, 1) := dk_177 (dk_at dksJ25_init_1 4 rfl rfl)
abbrev cJ25_init_2 : ByteArray := prog_42_method_2_code
def yJ25_init_2 : MethodName := ⟨RJ25, "<init>", "(Ljava/lang/String;)V"⟩
def dkwJ25_init_2_1 : List UInt8 := [182, 0, 27, 87, 42, 43, 181, 0, 31, 177]
abbrev dktJ25_init_2_1 : List UInt8 := dkwJ25_init_2_1 ++ []
def dkwJ25_init_2_0 : List UInt8 := [42, 183, 0, 1, 42, 42, 181, 0, 7, 42, 178, 0, 13, 181, 0, 17, 42, 178, 0, 20, 181, 0, 24, 42]
abbrev dktJ25_init_2_0 : List UInt8 := dkwJ25_init_2_0 ++ dktJ25_init_2_1
theorem dksJ25_init_2_0 : cJ25_init_2.data.toList.drop 0 = dktJ25_init_2_0 := by decide +kernel
theorem dksJ25_init_2_1 : cJ25_init_2.data.toList.drop 24 = dktJ25_init_2_1 := dk_seg dksJ25_init_2_0 24 rfl rfl
theorem dJ25_init_2_0 : decode cJ25_init_2 0 = .ok (.aload_n 0, 1) := dk_42 (dk_at dksJ25_init_2_0 0 rfl rfl)
theorem dJ25_init_2_1 : decode cJ25_init_2 1 = .ok (.invokespecial 1, 3) := dk_183 0 1 (dk_at dksJ25_init_2_0 1 rfl rfl)
theorem dJ25_init_2_4 : decode cJ25_init_2 4 = .ok (.aload_n 0, 1) := dk_42 (dk_at dksJ25_init_2_0 4 rfl rfl)
theorem dJ25_init_2_5 : decode cJ25_init_2 5 = .ok (.aload_n 0, 1) := dk_42 (dk_at dksJ25_init_2_0 5 rfl rfl)
theorem dJ25_init_2_6 : decode cJ25_init_2 6 = .ok (.putfield 7, 3) := dk_181 0 7 (dk_at dksJ25_init_2_0 6 rfl rfl)
theorem dJ25_init_2_9 : decode cJ25_init_2 9 = .ok (.aload_n 0, 1) := dk_42 (dk_at dksJ25_init_2_0 9 rfl rfl)
theorem dJ25_init_2_10 : decode cJ25_init_2 10 = .ok (.getstatic 13, 3) := dk_178 0 13 (dk_at dksJ25_init_2_0 10 rfl rfl)
theorem dJ25_init_2_13 : decode cJ25_init_2 13 = .ok (.putfield 17, 3) := dk_181 0 17 (dk_at dksJ25_init_2_0 13 rfl rfl)
theorem dJ25_init_2_16 : decode cJ25_init_2 16 = .ok (.aload_n 0, 1) := dk_42 (dk_at dksJ25_init_2_0 16 rfl rfl)
theorem dJ25_init_2_17 : decode cJ25_init_2 17 = .ok (.getstatic 20, 3) := dk_178 0 20 (dk_at dksJ25_init_2_0 17 rfl rfl)
theorem dJ25_init_2_20 : decode cJ25_init_2 20 = .ok (.putfield 24, 3) := dk_181 0 24 (dk_at dksJ25_init_2_0 20 rfl rfl)
theorem dJ25_init_2_23 : decode cJ25_init_2 23 = .ok (.aload_n 0, 1) := dk_42 (dk_at dksJ25_init_2_0 23 rfl rfl)
theorem dJ25_init_2_24 : decode cJ25_init_2 24 = .ok (.invokevirtual 27, 3) := dk_182 0 27 (dk_at dksJ25_init_2_1 0 rfl rfl)
theorem dJ25_init_2_27 : decode cJ25_init_2 27 = .ok (.pop, 1) := dk_87 (dk_at dksJ25_init_2_1 3 rfl rfl)
theorem dJ25_init_2_28 : decode cJ25_init_2 28 = .ok (.aload_n 0, 1) := dk_42 (dk_at dksJ25_init_2_1 4 rfl rfl)
theorem dJ25_init_2_29 : decode cJ25_init_2 29 = .ok (.aload_n 1, 1) := dk_43 (dk_at dksJ25_init_2_1 5 rfl rfl)
theorem dJ25_init_2_30 : decode cJ25_init_2 30 = .ok (.putfield 31, 3) := dk_181 0 31 (dk_at dksJ25_init_2_1 6 rfl rfl)
theorem dJ25_init_2_33 : decode cJ25_init_2 33 = .ok (.return_, 1) := dk_177 (dk_at dksJ25_init_2_1 9 rfl rfl)
abbrev cJ25_init_3 : ByteArray := prog_42_method_4_code
def yJ25_init_3 : MethodName := ⟨RJ25, "<init>", "(Ljava/lang/Throwable;)V"⟩
def dkwJ25_init_3_2 : List UInt8 := [181, 0, 7, 177]
abbrev dktJ25_init_3_2 : List UInt8 := dkwJ25_init_3_2 ++ []
def dkwJ25_init_3_1 : List UInt8 := [182, 0, 27, 87, 42, 43, 199, 0, 7, 1, 167, 0, 7, 43, 182, 0, 35, 181, 0, 31, 42, 43]
abbrev dktJ25_init_3_1 : List UInt8 := dkwJ25_init_3_1 ++ dktJ25_init_3_2
def dkwJ25_init_3_0 : List UInt8 := [42, 183, 0, 1, 42, 42, 181, 0, 7, 42, 178, 0, 13, 181, 0, 17, 42, 178, 0, 20, 181, 0, 24, 42]
abbrev dktJ25_init_3_0 : List UInt8 := dkwJ25_init_3_0 ++ dktJ25_init_3_1
theorem dksJ25_init_3_0 : cJ25_init_3.data.toList.drop 0 = dktJ25_init_3_0 := by decide +kernel
theorem dksJ25_init_3_1 : cJ25_init_3.data.toList.drop 24 = dktJ25_init_3_1 := dk_seg dksJ25_init_3_0 24 rfl rfl
theorem dksJ25_init_3_2 : cJ25_init_3.data.toList.drop 46 = dktJ25_init_3_2 := dk_seg dksJ25_init_3_1 22 rfl rfl
theorem dJ25_init_3_0 : decode cJ25_init_3 0 = .ok (.aload_n 0, 1) := dk_42 (dk_at dksJ25_init_3_0 0 rfl rfl)
theorem dJ25_init_3_1 : decode cJ25_init_3 1 = .ok (.invokespecial 1, 3) := dk_183 0 1 (dk_at dksJ25_init_3_0 1 rfl rfl)
theorem dJ25_init_3_4 : decode cJ25_init_3 4 = .ok (.aload_n 0, 1) := dk_42 (dk_at dksJ25_init_3_0 4 rfl rfl)
theorem dJ25_init_3_5 : decode cJ25_init_3 5 = .ok (.aload_n 0, 1) := dk_42 (dk_at dksJ25_init_3_0 5 rfl rfl)
theorem dJ25_init_3_6 : decode cJ25_init_3 6 = .ok (.putfield 7, 3) := dk_181 0 7 (dk_at dksJ25_init_3_0 6 rfl rfl)
theorem dJ25_init_3_9 : decode cJ25_init_3 9 = .ok (.aload_n 0, 1) := dk_42 (dk_at dksJ25_init_3_0 9 rfl rfl)
theorem dJ25_init_3_10 : decode cJ25_init_3 10 = .ok (.getstatic 13, 3) := dk_178 0 13 (dk_at dksJ25_init_3_0 10 rfl rfl)
theorem dJ25_init_3_13 : decode cJ25_init_3 13 = .ok (.putfield 17, 3) := dk_181 0 17 (dk_at dksJ25_init_3_0 13 rfl rfl)
theorem dJ25_init_3_16 : decode cJ25_init_3 16 = .ok (.aload_n 0, 1) := dk_42 (dk_at dksJ25_init_3_0 16 rfl rfl)
theorem dJ25_init_3_17 : decode cJ25_init_3 17 = .ok (.getstatic 20, 3) := dk_178 0 20 (dk_at dksJ25_init_3_0 17 rfl rfl)
theorem dJ25_init_3_20 : decode cJ25_init_3 20 = .ok (.putfield 24, 3) := dk_181 0 24 (dk_at dksJ25_init_3_0 20 rfl rfl)
theorem dJ25_init_3_23 : decode cJ25_init_3 23 = .ok (.aload_n 0, 1) := dk_42 (dk_at dksJ25_init_3_0 23 rfl rfl)
theorem dJ25_init_3_24 : decode cJ25_init_3 24 = .ok (.invokevirtual 27, 3) := dk_182 0 27 (dk_at dksJ25_init_3_1 0 rfl rfl)
theorem dJ25_init_3_27 : decode cJ25_init_3 27 = .ok (.pop, 1) := dk_87 (dk_at dksJ25_init_3_1 3 rfl rfl)
theorem dJ25_init_3_28 : decode cJ25_init_3 28 = .ok (.aload_n 0, 1) := dk_42 (dk_at dksJ25_init_3_1 4 rfl rfl)
theorem dJ25_init_3_29 : decode cJ25_init_3 29 = .ok (.aload_n 1, 1) := dk_43 (dk_at dksJ25_init_3_1 5 rfl rfl)
theorem dJ25_init_3_30 : decode cJ25_init_3 30 = .ok (.ifnonnull 7, 3) := dk_199 0 7 (dk_at dksJ25_init_3_1 6 rfl rfl)
theorem dJ25_init_3_33 : decode cJ25_init_3 33 = .ok (.aconst_null, 1) := dk_1 (dk_at dksJ25_init_3_1 9 rfl rfl)
theorem dJ25_init_3_34 : decode cJ25_init_3 34 = .ok (.goto 7, 3) := dk_167 0 7 (dk_at dksJ25_init_3_1 10 rfl rfl)
theorem dJ25_init_3_37 : decode cJ25_init_3 37 = .ok (.aload_n 1, 1) := dk_43 (dk_at dksJ25_init_3_1 13 rfl rfl)
theorem dJ25_init_3_38 : decode cJ25_init_3 38 = .ok (.invokevirtual 35, 3) := dk_182 0 35 (dk_at dksJ25_init_3_1 14 rfl rfl)
theorem dJ25_init_3_41 : decode cJ25_init_3 41 = .ok (.putfield 31, 3) := dk_181 0 31 (dk_at dksJ25_init_3_1 17 rfl rfl)
theorem dJ25_init_3_44 : decode cJ25_init_3 44 = .ok (.aload_n 0, 1) := dk_42 (dk_at dksJ25_init_3_1 20 rfl rfl)
theorem dJ25_init_3_45 : decode cJ25_init_3 45 = .ok (.aload_n 1, 1) := dk_43 (dk_at dksJ25_init_3_1 21 rfl rfl)
theorem dJ25_init_3_46 : decode cJ25_init_3 46 = .ok (.putfield 7, 3) := dk_181 0 7 (dk_at dksJ25_init_3_2 0 rfl rfl)
theorem dJ25_init_3_49 : decode cJ25_init_3 49 = .ok (.return_, 1) := dk_177 (dk_at dksJ25_init_3_2 3 rfl rfl)
abbrev cJ25_toString : ByteArray := prog_42_method_11_code
def yJ25_toString : MethodName := ⟨RJ25, "toString", "()Ljava/lang/String;"⟩
def dkwJ25_toString_1 : List UInt8 := [43, 182, 0, 49, 18, 81, 182, 0, 49, 44, 182, 0, 49, 182, 0, 60, 167, 0, 4, 43, 176]
abbrev dktJ25_toString_1 : List UInt8 := dkwJ25_toString_1 ++ []
def dkwJ25_toString_0 : List UInt8 := [42, 182, 0, 69, 182, 0, 73, 76, 42, 182, 0, 78, 77, 44, 198, 0, 29, 187, 0, 44, 89, 183, 0, 46]
abbrev dktJ25_toString_0 : List UInt8 := dkwJ25_toString_0 ++ dktJ25_toString_1
theorem dksJ25_toString_0 : cJ25_toString.data.toList.drop 0 = dktJ25_toString_0 := by decide +kernel
theorem dksJ25_toString_1 : cJ25_toString.data.toList.drop 24 = dktJ25_toString_1 := dk_seg dksJ25_toString_0 24 rfl rfl
theorem dJ25_toString_0 : decode cJ25_toString 0 = .ok (.aload_n 0, 1) := dk_42 (dk_at dksJ25_toString_0 0 rfl rfl)
theorem dJ25_toString_1 : decode cJ25_toString 1 = .ok (.invokevirtual 69, 3) := dk_182 0 69 (dk_at dksJ25_toString_0 1 rfl rfl)
theorem dJ25_toString_4 : decode cJ25_toString 4 = .ok (.invokevirtual 73, 3) := dk_182 0 73 (dk_at dksJ25_toString_0 4 rfl rfl)
theorem dJ25_toString_7 : decode cJ25_toString 7 = .ok (.astore_n 1, 1) := dk_76 (dk_at dksJ25_toString_0 7 rfl rfl)
theorem dJ25_toString_8 : decode cJ25_toString 8 = .ok (.aload_n 0, 1) := dk_42 (dk_at dksJ25_toString_0 8 rfl rfl)
theorem dJ25_toString_9 : decode cJ25_toString 9 = .ok (.invokevirtual 78, 3) := dk_182 0 78 (dk_at dksJ25_toString_0 9 rfl rfl)
theorem dJ25_toString_12 : decode cJ25_toString 12 = .ok (.astore_n 2, 1) := dk_77 (dk_at dksJ25_toString_0 12 rfl rfl)
theorem dJ25_toString_13 : decode cJ25_toString 13 = .ok (.aload_n 2, 1) := dk_44 (dk_at dksJ25_toString_0 13 rfl rfl)
theorem dJ25_toString_14 : decode cJ25_toString 14 = .ok (.ifnull 29, 3) := dk_198 0 29 (dk_at dksJ25_toString_0 14 rfl rfl)
theorem dJ25_toString_17 : decode cJ25_toString 17 = .ok (.new 44, 3) := dk_187 0 44 (dk_at dksJ25_toString_0 17 rfl rfl)
theorem dJ25_toString_20 : decode cJ25_toString 20 = .ok (.dup, 1) := dk_89 (dk_at dksJ25_toString_0 20 rfl rfl)
theorem dJ25_toString_21 : decode cJ25_toString 21 = .ok (.invokespecial 46, 3) := dk_183 0 46 (dk_at dksJ25_toString_0 21 rfl rfl)
theorem dJ25_toString_24 : decode cJ25_toString 24 = .ok (.aload_n 1, 1) := dk_43 (dk_at dksJ25_toString_1 0 rfl rfl)
theorem dJ25_toString_25 : decode cJ25_toString 25 = .ok (.invokevirtual 49, 3) := dk_182 0 49 (dk_at dksJ25_toString_1 1 rfl rfl)
theorem dJ25_toString_28 : decode cJ25_toString 28 = .ok (.ldc 81, 2) := dk_18 81 (dk_at dksJ25_toString_1 4 rfl rfl)
theorem dJ25_toString_30 : decode cJ25_toString 30 = .ok (.invokevirtual 49, 3) := dk_182 0 49 (dk_at dksJ25_toString_1 6 rfl rfl)
theorem dJ25_toString_33 : decode cJ25_toString 33 = .ok (.aload_n 2, 1) := dk_44 (dk_at dksJ25_toString_1 9 rfl rfl)
theorem dJ25_toString_34 : decode cJ25_toString 34 = .ok (.invokevirtual 49, 3) := dk_182 0 49 (dk_at dksJ25_toString_1 10 rfl rfl)
theorem dJ25_toString_37 : decode cJ25_toString 37 = .ok (.invokevirtual 60, 3) := dk_182 0 60 (dk_at dksJ25_toString_1 13 rfl rfl)
theorem dJ25_toString_40 : decode cJ25_toString 40 = .ok (.goto 4, 3) := dk_167 0 4 (dk_at dksJ25_toString_1 16 rfl rfl)
theorem dJ25_toString_43 : decode cJ25_toString 43 = .ok (.aload_n 1, 1) := dk_43 (dk_at dksJ25_toString_1 19 rfl rfl)
theorem dJ25_toString_44 : decode cJ25_toString 44 = .ok (.areturn, 1) := dk_176 (dk_at dksJ25_toString_1 20 rfl rfl)
abbrev cJ25_getLocalizedMessage : ByteArray := prog_42_method_7_code
def yJ25_getLocalizedMessage : MethodName := ⟨RJ25, "getLocalizedMessage", "()Ljava/lang/String;"⟩
theorem dJ25_getLocalizedMessage_0 : decode cJ25_getLocalizedMessage 0 = .ok (.aload_n 0, 1) := by decide +kernel
theorem dJ25_getLocalizedMessage_1 : decode cJ25_getLocalizedMessage 1 = .ok (.invokevirtual 39, 3) := by decide +kernel
theorem dJ25_getLocalizedMessage_4 : decode cJ25_getLocalizedMessage 4 = .ok (.areturn, 1) := by decide +kernel
abbrev cJ25_getMessage : ByteArray := prog_42_method_6_code
def yJ25_getMessage : MethodName := ⟨RJ25, "getMessage", "()Ljava/lang/String;"⟩
theorem dJ25_getMessage_0 : decode cJ25_getMessage 0 = .ok (.aload_n 0, 1) := by decide +kernel
theorem dJ25_getMessage_1 : decode cJ25_getMessage 1 = .ok (.getfield 31, 3) := by decide +kernel
theorem dJ25_getMessage_4 : decode cJ25_getMessage 4 = .ok (.areturn, 1) := by decide +kernel
abbrev cJ26_init : ByteArray := prog_24_method_2_code
def yJ26_init : MethodName := ⟨RJ26, "<init>", "(Ljava/lang/String;)V"⟩
def dkwJ26_init_0 : List UInt8 := [42, 43, 183, 0, 7, 177]
abbrev dktJ26_init_0 : List UInt8 := dkwJ26_init_0 ++ []
theorem dksJ26_init_0 : cJ26_init.data.toList.drop 0 = dktJ26_init_0 := by decide +kernel
theorem dJ26_init_0 : decode cJ26_init 0 = .ok (.aload_n 0, 1) := dk_42 (dk_at dksJ26_init_0 0 rfl rfl)
theorem dJ26_init_1 : decode cJ26_init 1 = .ok (.aload_n 1, 1) := dk_43 (dk_at dksJ26_init_0 1 rfl rfl)
theorem dJ26_init_2 : decode cJ26_init 2 = .ok (.invokespecial 7, 3) := dk_183 0 7 (dk_at dksJ26_init_0 2 rfl rfl)
theorem dJ26_init_5 : decode cJ26_init 5 = .ok (.return_, 1) := dk_177 (dk_at dksJ26_init_0 5 rfl rfl)
abbrev cJ26_init_2 : ByteArray := prog_24_method_4_code
def yJ26_init_2 : MethodName := ⟨RJ26, "<init>", "(Ljava/lang/Throwable;)V"⟩
def dkwJ26_init_2_0 : List UInt8 := [42, 43, 183, 0, 13, 177]
abbrev dktJ26_init_2_0 : List UInt8 := dkwJ26_init_2_0 ++ []
theorem dksJ26_init_2_0 : cJ26_init_2.data.toList.drop 0 = dktJ26_init_2_0 := by decide +kernel
theorem dJ26_init_2_0 : decode cJ26_init_2 0 = .ok (.aload_n 0, 1) := dk_42 (dk_at dksJ26_init_2_0 0 rfl rfl)
theorem dJ26_init_2_1 : decode cJ26_init_2 1 = .ok (.aload_n 1, 1) := dk_43 (dk_at dksJ26_init_2_0 1 rfl rfl)
theorem dJ26_init_2_2 : decode cJ26_init_2 2 = .ok (.invokespecial 13, 3) := dk_183 0 13 (dk_at dksJ26_init_2_0 2 rfl rfl)
theorem dJ26_init_2_5 : decode cJ26_init_2 5 = .ok (.return_, 1) := dk_177 (dk_at dksJ26_init_2_0 5 rfl rfl)
abbrev cJ26_init_3 : ByteArray := prog_24_method_1_code
def yJ26_init_3 : MethodName := ⟨RJ26, "<init>", "()V"⟩
theorem dJ26_init_3_0 : decode cJ26_init_3 0 = .ok (.aload_n 0, 1) := by decide +kernel
theorem dJ26_init_3_1 : decode cJ26_init_3 1 = .ok (.invokespecial 1, 3) := by decide +kernel
theorem dJ26_init_3_4 : decode cJ26_init_3 4 = .ok (.return_, 1) := by decide +kernel
abbrev cJ27_init : ByteArray := prog_34_method_2_code
def yJ27_init : MethodName := ⟨RJ27, "<init>", "(Ljava/lang/String;)V"⟩
def dkwJ27_init_0 : List UInt8 := [42, 43, 183, 0, 7, 177]
abbrev dktJ27_init_0 : List UInt8 := dkwJ27_init_0 ++ []
theorem dksJ27_init_0 : cJ27_init.data.toList.drop 0 = dktJ27_init_0 := by decide +kernel
theorem dJ27_init_0 : decode cJ27_init 0 = .ok (.aload_n 0, 1) := dk_42 (dk_at dksJ27_init_0 0 rfl rfl)
theorem dJ27_init_1 : decode cJ27_init 1 = .ok (.aload_n 1, 1) := dk_43 (dk_at dksJ27_init_0 1 rfl rfl)
theorem dJ27_init_2 : decode cJ27_init 2 = .ok (.invokespecial 7, 3) := dk_183 0 7 (dk_at dksJ27_init_0 2 rfl rfl)
theorem dJ27_init_5 : decode cJ27_init 5 = .ok (.return_, 1) := dk_177 (dk_at dksJ27_init_0 5 rfl rfl)
abbrev cJ27_init_2 : ByteArray := prog_34_method_4_code
def yJ27_init_2 : MethodName := ⟨RJ27, "<init>", "(Ljava/lang/Throwable;)V"⟩
def dkwJ27_init_2_0 : List UInt8 := [42, 43, 183, 0, 13, 177]
abbrev dktJ27_init_2_0 : List UInt8 := dkwJ27_init_2_0 ++ []
theorem dksJ27_init_2_0 : cJ27_init_2.data.toList.drop 0 = dktJ27_init_2_0 := by decide +kernel
theorem dJ27_init_2_0 : decode cJ27_init_2 0 = .ok (.aload_n 0, 1) := dk_42 (dk_at dksJ27_init_2_0 0 rfl rfl)
theorem dJ27_init_2_1 : decode cJ27_init_2 1 = .ok (.aload_n 1, 1) := dk_43 (dk_at dksJ27_init_2_0 1 rfl rfl)
theorem dJ27_init_2_2 : decode cJ27_init_2 2 = .ok (.invokespecial 13, 3) := dk_183 0 13 (dk_at dksJ27_init_2_0 2 rfl rfl)
theorem dJ27_init_2_5 : decode cJ27_init_2 5 = .ok (.return_, 1) := dk_177 (dk_at dksJ27_init_2_0 5 rfl rfl)
abbrev cJ27_init_3 : ByteArray := prog_34_method_1_code
def yJ27_init_3 : MethodName := ⟨RJ27, "<init>", "()V"⟩
theorem dJ27_init_3_0 : decode cJ27_init_3 0 = .ok (.aload_n 0, 1) := by decide +kernel
theorem dJ27_init_3_1 : decode cJ27_init_3 1 = .ok (.invokespecial 1, 3) := by decide +kernel
theorem dJ27_init_3_4 : decode cJ27_init_3 4 = .ok (.return_, 1) := by decide +kernel
abbrev cJ28_init : ByteArray := prog_27_method_2_code
def yJ28_init : MethodName := ⟨RJ28, "<init>", "(Ljava/lang/String;)V"⟩
def dkwJ28_init_0 : List UInt8 := [42, 43, 183, 0, 7, 177]
abbrev dktJ28_init_0 : List UInt8 := dkwJ28_init_0 ++ []
theorem dksJ28_init_0 : cJ28_init.data.toList.drop 0 = dktJ28_init_0 := by decide +kernel
theorem dJ28_init_0 : decode cJ28_init 0 = .ok (.aload_n 0, 1) := dk_42 (dk_at dksJ28_init_0 0 rfl rfl)
theorem dJ28_init_1 : decode cJ28_init 1 = .ok (.aload_n 1, 1) := dk_43 (dk_at dksJ28_init_0 1 rfl rfl)
theorem dJ28_init_2 : decode cJ28_init 2 = .ok (.invokespecial 7, 3) := dk_183 0 7 (dk_at dksJ28_init_0 2 rfl rfl)
theorem dJ28_init_5 : decode cJ28_init 5 = .ok (.return_, 1) := dk_177 (dk_at dksJ28_init_0 5 rfl rfl)
abbrev cJ28_init_2 : ByteArray := prog_27_method_1_code
def yJ28_init_2 : MethodName := ⟨RJ28, "<init>", "()V"⟩
theorem dJ28_init_2_0 : decode cJ28_init_2 0 = .ok (.aload_n 0, 1) := by decide +kernel
theorem dJ28_init_2_1 : decode cJ28_init_2 1 = .ok (.invokespecial 1, 3) := by decide +kernel
theorem dJ28_init_2_4 : decode cJ28_init_2 4 = .ok (.return_, 1) := by decide +kernel
abbrev cJ29_init : ByteArray := prog_25_method_2_code
def yJ29_init : MethodName := ⟨RJ29, "<init>", "(Ljava/lang/String;)V"⟩
def dkwJ29_init_0 : List UInt8 := [42, 43, 183, 0, 7, 177]
abbrev dktJ29_init_0 : List UInt8 := dkwJ29_init_0 ++ []
theorem dksJ29_init_0 : cJ29_init.data.toList.drop 0 = dktJ29_init_0 := by decide +kernel
theorem dJ29_init_0 : decode cJ29_init 0 = .ok (.aload_n 0, 1) := dk_42 (dk_at dksJ29_init_0 0 rfl rfl)
theorem dJ29_init_1 : decode cJ29_init 1 = .ok (.aload_n 1, 1) := dk_43 (dk_at dksJ29_init_0 1 rfl rfl)
theorem dJ29_init_2 : decode cJ29_init 2 = .ok (.invokespecial 7, 3) := dk_183 0 7 (dk_at dksJ29_init_0 2 rfl rfl)
theorem dJ29_init_5 : decode cJ29_init 5 = .ok (.return_, 1) := dk_177 (dk_at dksJ29_init_0 5 rfl rfl)
abbrev cJ29_init_2 : ByteArray := prog_25_method_1_code
def yJ29_init_2 : MethodName := ⟨RJ29, "<init>", "()V"⟩
theorem dJ29_init_2_0 : decode cJ29_init_2 0 = .ok (.aload_n 0, 1) := by decide +kernel
theorem dJ29_init_2_1 : decode cJ29_init_2 1 = .ok (.invokespecial 1, 3) := by decide +kernel
theorem dJ29_init_2_4 : decode cJ29_init_2 4 = .ok (.return_, 1) := by decide +kernel
abbrev cJ30_init : ByteArray := prog_72_method_3_code
def yJ30_init : MethodName := ⟨RJ30, "<init>", "(Ljava/lang/Throwable;)V"⟩
def dkwJ30_init_0 : List UInt8 := [42, 43, 183, 0, 10, 177]
abbrev dktJ30_init_0 : List UInt8 := dkwJ30_init_0 ++ []
theorem dksJ30_init_0 : cJ30_init.data.toList.drop 0 = dktJ30_init_0 := by decide +kernel
theorem dJ30_init_0 : decode cJ30_init 0 = .ok (.aload_n 0, 1) := dk_42 (dk_at dksJ30_init_0 0 rfl rfl)
theorem dJ30_init_1 : decode cJ30_init 1 = .ok (.aload_n 1, 1) := dk_43 (dk_at dksJ30_init_0 1 rfl rfl)
theorem dJ30_init_2 : decode cJ30_init 2 = .ok (.invokespecial 10, 3) := dk_183 0 10 (dk_at dksJ30_init_0 2 rfl rfl)
theorem dJ30_init_5 : decode cJ30_init 5 = .ok (.return_, 1) := dk_177 (dk_at dksJ30_init_0 5 rfl rfl)
abbrev cJ30_init_2 : ByteArray := prog_72_method_1_code
def yJ30_init_2 : MethodName := ⟨RJ30, "<init>", "()V"⟩
theorem dJ30_init_2_0 : decode cJ30_init_2 0 = .ok (.aload_n 0, 1) := by decide +kernel
theorem dJ30_init_2_1 : decode cJ30_init_2 1 = .ok (.invokespecial 1, 3) := by decide +kernel
theorem dJ30_init_2_4 : decode cJ30_init_2 4 = .ok (.return_, 1) := by decide +kernel
abbrev cJ31_getKey : ByteArray := prog_83_method_2_code
def yJ31_getKey : MethodName := ⟨RJ31, "getKey", "()Ljava/lang/Object;"⟩
theorem dJ31_getKey_0 : decode cJ31_getKey 0 = .ok (.aload_n 0, 1) := by decide +kernel
theorem dJ31_getKey_1 : decode cJ31_getKey 1 = .ok (.getfield 15, 3) := by decide +kernel
theorem dJ31_getKey_4 : decode cJ31_getKey 4 = .ok (.areturn, 1) := by decide +kernel
abbrev cJ31_getValue : ByteArray := prog_83_method_3_code
def yJ31_getValue : MethodName := ⟨RJ31, "getValue", "()Ljava/lang/Object;"⟩
theorem dJ31_getValue_0 : decode cJ31_getValue 0 = .ok (.aload_n 0, 1) := by decide +kernel
theorem dJ31_getValue_1 : decode cJ31_getValue 1 = .ok (.getfield 19, 3) := by decide +kernel
theorem dJ31_getValue_4 : decode cJ31_getValue 4 = .ok (.areturn, 1) := by decide +kernel
abbrev cJ31_init : ByteArray := prog_83_method_1_code
def yJ31_init : MethodName := ⟨RJ31, "<init>", "(Ljava/lang/Object;Ljava/lang/Object;Ljava/util/TreeMap$Entry;)V"⟩
def dkwJ31_init_1 : List UInt8 := [177]
abbrev dktJ31_init_1 : List UInt8 := dkwJ31_init_1 ++ []
def dkwJ31_init_0 : List UInt8 := [42, 183, 0, 3, 42, 4, 181, 0, 9, 42, 43, 181, 0, 15, 42, 44, 181, 0, 19, 42, 45, 181, 0, 22]
abbrev dktJ31_init_0 : List UInt8 := dkwJ31_init_0 ++ dktJ31_init_1
theorem dksJ31_init_0 : cJ31_init.data.toList.drop 0 = dktJ31_init_0 := by decide +kernel
theorem dksJ31_init_1 : cJ31_init.data.toList.drop 24 = dktJ31_init_1 := dk_seg dksJ31_init_0 24 rfl rfl
theorem dJ31_init_0 : decode cJ31_init 0 = .ok (.aload_n 0, 1) := dk_42 (dk_at dksJ31_init_0 0 rfl rfl)
theorem dJ31_init_1 : decode cJ31_init 1 = .ok (.invokespecial 3, 3) := dk_183 0 3 (dk_at dksJ31_init_0 1 rfl rfl)
theorem dJ31_init_4 : decode cJ31_init 4 = .ok (.aload_n 0, 1) := dk_42 (dk_at dksJ31_init_0 4 rfl rfl)
theorem dJ31_init_5 : decode cJ31_init 5 = .ok (.iconst 1, 1) := dk_4 (dk_at dksJ31_init_0 5 rfl rfl)
theorem dJ31_init_6 : decode cJ31_init 6 = .ok (.putfield 9, 3) := dk_181 0 9 (dk_at dksJ31_init_0 6 rfl rfl)
theorem dJ31_init_9 : decode cJ31_init 9 = .ok (.aload_n 0, 1) := dk_42 (dk_at dksJ31_init_0 9 rfl rfl)
theorem dJ31_init_10 : decode cJ31_init 10 = .ok (.aload_n 1, 1) := dk_43 (dk_at dksJ31_init_0 10 rfl rfl)
theorem dJ31_init_11 : decode cJ31_init 11 = .ok (.putfield 15, 3) := dk_181 0 15 (dk_at dksJ31_init_0 11 rfl rfl)
theorem dJ31_init_14 : decode cJ31_init 14 = .ok (.aload_n 0, 1) := dk_42 (dk_at dksJ31_init_0 14 rfl rfl)
theorem dJ31_init_15 : decode cJ31_init 15 = .ok (.aload_n 2, 1) := dk_44 (dk_at dksJ31_init_0 15 rfl rfl)
theorem dJ31_init_16 : decode cJ31_init 16 = .ok (.putfield 19, 3) := dk_181 0 19 (dk_at dksJ31_init_0 16 rfl rfl)
theorem dJ31_init_19 : decode cJ31_init 19 = .ok (.aload_n 0, 1) := dk_42 (dk_at dksJ31_init_0 19 rfl rfl)
theorem dJ31_init_20 : decode cJ31_init 20 = .ok (.aload_n 3, 1) := dk_45 (dk_at dksJ31_init_0 20 rfl rfl)
theorem dJ31_init_21 : decode cJ31_init 21 = .ok (.putfield 22, 3) := dk_181 0 22 (dk_at dksJ31_init_0 21 rfl rfl)
theorem dJ31_init_24 : decode cJ31_init 24 = .ok (.return_, 1) := dk_177 (dk_at dksJ31_init_1 0 rfl rfl)
abbrev cJ32_init : ByteArray := prog_43_method_1_code
def yJ32_init : MethodName := ⟨RJ32, "<init>", "()V"⟩
theorem dJ32_init_0 : decode cJ32_init 0 = .ok (.aload_n 0, 1) := by decide +kernel
theorem dJ32_init_1 : decode cJ32_init 1 = .ok (.invokespecial 1, 3) := by decide +kernel
theorem dJ32_init_4 : decode cJ32_init 4 = .ok (.return_, 1) := by decide +kernel
abbrev cJ33_getLongUnaligned : ByteArray := prog_88_method_334_code
def yJ33_getLongUnaligned : MethodName := ⟨RJ33, "getLongUnaligned", "(Ljava/lang/Object;J)J"⟩
def dkwJ33_getLongUnaligned_7 : List UInt8 := [182, 0, 39, 184, 2, 197, 173]
abbrev dktJ33_getLongUnaligned_7 : List UInt8 := dkwJ33_getLongUnaligned_7 ++ []
def dkwJ33_getLongUnaligned_6 : List UInt8 := [20, 2, 195, 97, 182, 0, 39, 42, 43, 32, 20, 2, 190, 97, 182, 0, 39, 42, 43, 32, 20, 2, 184, 97]
abbrev dktJ33_getLongUnaligned_6 : List UInt8 := dkwJ33_getLongUnaligned_6 ++ dktJ33_getLongUnaligned_7
def dkwJ33_getLongUnaligned_5 : List UInt8 := [43, 32, 20, 1, 93, 97, 182, 0, 39, 42, 43, 32, 20, 0, 205, 97, 182, 0, 39, 42, 43, 32]
abbrev dktJ33_getLongUnaligned_5 : List UInt8 := dkwJ33_getLongUnaligned_5 ++ dktJ33_getLongUnaligned_6
def dkwJ33_getLongUnaligned_4 : List UInt8 := [43, 32, 182, 0, 39, 42, 43, 32, 10, 97, 182, 0, 39, 42, 43, 32, 20, 0, 203, 97, 182, 0, 39, 42]
abbrev dktJ33_getLongUnaligned_4 : List UInt8 := dkwJ33_getLongUnaligned_4 ++ dktJ33_getLongUnaligned_5
def dkwJ33_getLongUnaligned_3 : List UInt8 := [43, 32, 20, 0, 205, 97, 182, 0, 47, 42, 43, 32, 20, 2, 190, 97, 182, 0, 47, 184, 2, 192, 173, 42]
abbrev dktJ33_getLongUnaligned_3 : List UInt8 := dkwJ33_getLongUnaligned_3 ++ dktJ33_getLongUnaligned_4
def dkwJ33_getLongUnaligned_2 : List UInt8 := [10, 127, 9, 148, 154, 0, 43, 42, 43, 32, 182, 0, 47, 42, 43, 32, 20, 0, 203, 97, 182, 0, 47, 42]
abbrev dktJ33_getLongUnaligned_2 : List UInt8 := dkwJ33_getLongUnaligned_2 ++ dktJ33_getLongUnaligned_3
def dkwJ33_getLongUnaligned_1 : List UInt8 := [154, 0, 23, 42, 43, 32, 182, 0, 17, 42, 43, 32, 20, 0, 205, 97, 182, 0, 17, 184, 2, 186, 173, 32]
abbrev dktJ33_getLongUnaligned_1 : List UInt8 := dkwJ33_getLongUnaligned_1 ++ dktJ33_getLongUnaligned_2
def dkwJ33_getLongUnaligned_0 : List UInt8 := [32, 20, 2, 184, 127, 9, 148, 154, 0, 10, 42, 43, 32, 182, 0, 27, 173, 32, 20, 1, 93, 127, 9, 148]
abbrev dktJ33_getLongUnaligned_0 : List UInt8 := dkwJ33_getLongUnaligned_0 ++ dktJ33_getLongUnaligned_1
theorem dksJ33_getLongUnaligned_0 : cJ33_getLongUnaligned.data.toList.drop 0 = dktJ33_getLongUnaligned_0 := by decide +kernel
theorem dksJ33_getLongUnaligned_1 : cJ33_getLongUnaligned.data.toList.drop 24 = dktJ33_getLongUnaligned_1 := dk_seg dksJ33_getLongUnaligned_0 24 rfl rfl
theorem dksJ33_getLongUnaligned_2 : cJ33_getLongUnaligned.data.toList.drop 48 = dktJ33_getLongUnaligned_2 := dk_seg dksJ33_getLongUnaligned_1 24 rfl rfl
theorem dksJ33_getLongUnaligned_3 : cJ33_getLongUnaligned.data.toList.drop 72 = dktJ33_getLongUnaligned_3 := dk_seg dksJ33_getLongUnaligned_2 24 rfl rfl
theorem dksJ33_getLongUnaligned_4 : cJ33_getLongUnaligned.data.toList.drop 96 = dktJ33_getLongUnaligned_4 := dk_seg dksJ33_getLongUnaligned_3 24 rfl rfl
theorem dksJ33_getLongUnaligned_5 : cJ33_getLongUnaligned.data.toList.drop 120 = dktJ33_getLongUnaligned_5 := dk_seg dksJ33_getLongUnaligned_4 24 rfl rfl
theorem dksJ33_getLongUnaligned_6 : cJ33_getLongUnaligned.data.toList.drop 142 = dktJ33_getLongUnaligned_6 := dk_seg dksJ33_getLongUnaligned_5 22 rfl rfl
theorem dksJ33_getLongUnaligned_7 : cJ33_getLongUnaligned.data.toList.drop 166 = dktJ33_getLongUnaligned_7 := dk_seg dksJ33_getLongUnaligned_6 24 rfl rfl
theorem dJ33_getLongUnaligned_0 : decode cJ33_getLongUnaligned 0 = .ok (.lload_n 2, 1) := dk_32 (dk_at dksJ33_getLongUnaligned_0 0 rfl rfl)
theorem dJ33_getLongUnaligned_1 : decode cJ33_getLongUnaligned 1 = .ok (.ldc2_w 696, 3) := dk_20 2 184 (dk_at dksJ33_getLongUnaligned_0 1 rfl rfl)
theorem dJ33_getLongUnaligned_4 : decode cJ33_getLongUnaligned 4 = .ok (.land, 1) := dk_127 (dk_at dksJ33_getLongUnaligned_0 4 rfl rfl)
theorem dJ33_getLongUnaligned_5 : decode cJ33_getLongUnaligned 5 = .ok (.lconst 0, 1) := dk_9 (dk_at dksJ33_getLongUnaligned_0 5 rfl rfl)
theorem dJ33_getLongUnaligned_6 : decode cJ33_getLongUnaligned 6 = .ok (.lcmp, 1) := dk_148 (dk_at dksJ33_getLongUnaligned_0 6 rfl rfl)
theorem dJ33_getLongUnaligned_7 : decode cJ33_getLongUnaligned 7 = .ok (.ifCond .ne 10, 3) := dk_154 0 10 (dk_at dksJ33_getLongUnaligned_0 7 rfl rfl)
theorem dJ33_getLongUnaligned_10 : decode cJ33_getLongUnaligned 10 = .ok (.aload_n 0, 1) := dk_42 (dk_at dksJ33_getLongUnaligned_0 10 rfl rfl)
theorem dJ33_getLongUnaligned_11 : decode cJ33_getLongUnaligned 11 = .ok (.aload_n 1, 1) := dk_43 (dk_at dksJ33_getLongUnaligned_0 11 rfl rfl)
theorem dJ33_getLongUnaligned_12 : decode cJ33_getLongUnaligned 12 = .ok (.lload_n 2, 1) := dk_32 (dk_at dksJ33_getLongUnaligned_0 12 rfl rfl)
theorem dJ33_getLongUnaligned_13 : decode cJ33_getLongUnaligned 13 = .ok (.invokevirtual 27, 3) := dk_182 0 27 (dk_at dksJ33_getLongUnaligned_0 13 rfl rfl)
theorem dJ33_getLongUnaligned_16 : decode cJ33_getLongUnaligned 16 = .ok (.lreturn, 1) := dk_173 (dk_at dksJ33_getLongUnaligned_0 16 rfl rfl)
theorem dJ33_getLongUnaligned_17 : decode cJ33_getLongUnaligned 17 = .ok (.lload_n 2, 1) := dk_32 (dk_at dksJ33_getLongUnaligned_0 17 rfl rfl)
theorem dJ33_getLongUnaligned_18 : decode cJ33_getLongUnaligned 18 = .ok (.ldc2_w 349, 3) := dk_20 1 93 (dk_at dksJ33_getLongUnaligned_0 18 rfl rfl)
theorem dJ33_getLongUnaligned_21 : decode cJ33_getLongUnaligned 21 = .ok (.land, 1) := dk_127 (dk_at dksJ33_getLongUnaligned_0 21 rfl rfl)
theorem dJ33_getLongUnaligned_22 : decode cJ33_getLongUnaligned 22 = .ok (.lconst 0, 1) := dk_9 (dk_at dksJ33_getLongUnaligned_0 22 rfl rfl)
theorem dJ33_getLongUnaligned_23 : decode cJ33_getLongUnaligned 23 = .ok (.lcmp, 1) := dk_148 (dk_at dksJ33_getLongUnaligned_0 23 rfl rfl)
theorem dJ33_getLongUnaligned_24 : decode cJ33_getLongUnaligned 24 = .ok (.ifCond .ne 23, 3) := dk_154 0 23 (dk_at dksJ33_getLongUnaligned_1 0 rfl rfl)
theorem dJ33_getLongUnaligned_27 : decode cJ33_getLongUnaligned 27 = .ok (.aload_n 0, 1) := dk_42 (dk_at dksJ33_getLongUnaligned_1 3 rfl rfl)
theorem dJ33_getLongUnaligned_28 : decode cJ33_getLongUnaligned 28 = .ok (.aload_n 1, 1) := dk_43 (dk_at dksJ33_getLongUnaligned_1 4 rfl rfl)
theorem dJ33_getLongUnaligned_29 : decode cJ33_getLongUnaligned 29 = .ok (.lload_n 2, 1) := dk_32 (dk_at dksJ33_getLongUnaligned_1 5 rfl rfl)
theorem dJ33_getLongUnaligned_30 : decode cJ33_getLongUnaligned 30 = .ok (.invokevirtual 17, 3) := dk_182 0 17 (dk_at dksJ33_getLongUnaligned_1 6 rfl rfl)
theorem dJ33_getLongUnaligned_33 : decode cJ33_getLongUnaligned 33 = .ok (.aload_n 0, 1) := dk_42 (dk_at dksJ33_getLongUnaligned_1 9 rfl rfl)
theorem dJ33_getLongUnaligned_34 : decode cJ33_getLongUnaligned 34 = .ok (.aload_n 1, 1) := dk_43 (dk_at dksJ33_getLongUnaligned_1 10 rfl rfl)
theorem dJ33_getLongUnaligned_35 : decode cJ33_getLongUnaligned 35 = .ok (.lload_n 2, 1) := dk_32 (dk_at dksJ33_getLongUnaligned_1 11 rfl rfl)
theorem dJ33_getLongUnaligned_36 : decode cJ33_getLongUnaligned 36 = .ok (.ldc2_w 205, 3) := dk_20 0 205 (dk_at dksJ33_getLongUnaligned_1 12 rfl rfl)
theorem dJ33_getLongUnaligned_39 : decode cJ33_getLongUnaligned 39 = .ok (.ladd, 1) := dk_97 (dk_at dksJ33_getLongUnaligned_1 15 rfl rfl)
theorem dJ33_getLongUnaligned_40 : decode cJ33_getLongUnaligned 40 = .ok (.invokevirtual 17, 3) := dk_182 0 17 (dk_at dksJ33_getLongUnaligned_1 16 rfl rfl)
theorem dJ33_getLongUnaligned_43 : decode cJ33_getLongUnaligned 43 = .ok (.invokestatic 698, 3) := dk_184 2 186 (dk_at dksJ33_getLongUnaligned_1 19 rfl rfl)
theorem dJ33_getLongUnaligned_46 : decode cJ33_getLongUnaligned 46 = .ok (.lreturn, 1) := dk_173 (dk_at dksJ33_getLongUnaligned_1 22 rfl rfl)
theorem dJ33_getLongUnaligned_47 : decode cJ33_getLongUnaligned 47 = .ok (.lload_n 2, 1) := dk_32 (dk_at dksJ33_getLongUnaligned_1 23 rfl rfl)
theorem dJ33_getLongUnaligned_48 : decode cJ33_getLongUnaligned 48 = .ok (.lconst 1, 1) := dk_10 (dk_at dksJ33_getLongUnaligned_2 0 rfl rfl)
theorem dJ33_getLongUnaligned_49 : decode cJ33_getLongUnaligned 49 = .ok (.land, 1) := dk_127 (dk_at dksJ33_getLongUnaligned_2 1 rfl rfl)
theorem dJ33_getLongUnaligned_50 : decode cJ33_getLongUnaligned 50 = .ok (.lconst 0, 1) := dk_9 (dk_at dksJ33_getLongUnaligned_2 2 rfl rfl)
theorem dJ33_getLongUnaligned_51 : decode cJ33_getLongUnaligned 51 = .ok (.lcmp, 1) := dk_148 (dk_at dksJ33_getLongUnaligned_2 3 rfl rfl)
theorem dJ33_getLongUnaligned_52 : decode cJ33_getLongUnaligned 52 = .ok (.ifCond .ne 43, 3) := dk_154 0 43 (dk_at dksJ33_getLongUnaligned_2 4 rfl rfl)
theorem dJ33_getLongUnaligned_55 : decode cJ33_getLongUnaligned 55 = .ok (.aload_n 0, 1) := dk_42 (dk_at dksJ33_getLongUnaligned_2 7 rfl rfl)
theorem dJ33_getLongUnaligned_56 : decode cJ33_getLongUnaligned 56 = .ok (.aload_n 1, 1) := dk_43 (dk_at dksJ33_getLongUnaligned_2 8 rfl rfl)
theorem dJ33_getLongUnaligned_57 : decode cJ33_getLongUnaligned 57 = .ok (.lload_n 2, 1) := dk_32 (dk_at dksJ33_getLongUnaligned_2 9 rfl rfl)
theorem dJ33_getLongUnaligned_58 : decode cJ33_getLongUnaligned 58 = .ok (.invokevirtual 47, 3) := dk_182 0 47 (dk_at dksJ33_getLongUnaligned_2 10 rfl rfl)
theorem dJ33_getLongUnaligned_61 : decode cJ33_getLongUnaligned 61 = .ok (.aload_n 0, 1) := dk_42 (dk_at dksJ33_getLongUnaligned_2 13 rfl rfl)
theorem dJ33_getLongUnaligned_62 : decode cJ33_getLongUnaligned 62 = .ok (.aload_n 1, 1) := dk_43 (dk_at dksJ33_getLongUnaligned_2 14 rfl rfl)
theorem dJ33_getLongUnaligned_63 : decode cJ33_getLongUnaligned 63 = .ok (.lload_n 2, 1) := dk_32 (dk_at dksJ33_getLongUnaligned_2 15 rfl rfl)
theorem dJ33_getLongUnaligned_64 : decode cJ33_getLongUnaligned 64 = .ok (.ldc2_w 203, 3) := dk_20 0 203 (dk_at dksJ33_getLongUnaligned_2 16 rfl rfl)
theorem dJ33_getLongUnaligned_67 : decode cJ33_getLongUnaligned 67 = .ok (.ladd, 1) := dk_97 (dk_at dksJ33_getLongUnaligned_2 19 rfl rfl)
theorem dJ33_getLongUnaligned_68 : decode cJ33_getLongUnaligned 68 = .ok (.invokevirtual 47, 3) := dk_182 0 47 (dk_at dksJ33_getLongUnaligned_2 20 rfl rfl)
theorem dJ33_getLongUnaligned_71 : decode cJ33_getLongUnaligned 71 = .ok (.aload_n 0, 1) := dk_42 (dk_at dksJ33_getLongUnaligned_2 23 rfl rfl)
theorem dJ33_getLongUnaligned_72 : decode cJ33_getLongUnaligned 72 = .ok (.aload_n 1, 1) := dk_43 (dk_at dksJ33_getLongUnaligned_3 0 rfl rfl)
theorem dJ33_getLongUnaligned_73 : decode cJ33_getLongUnaligned 73 = .ok (.lload_n 2, 1) := dk_32 (dk_at dksJ33_getLongUnaligned_3 1 rfl rfl)
theorem dJ33_getLongUnaligned_74 : decode cJ33_getLongUnaligned 74 = .ok (.ldc2_w 205, 3) := dk_20 0 205 (dk_at dksJ33_getLongUnaligned_3 2 rfl rfl)
theorem dJ33_getLongUnaligned_77 : decode cJ33_getLongUnaligned 77 = .ok (.ladd, 1) := dk_97 (dk_at dksJ33_getLongUnaligned_3 5 rfl rfl)
theorem dJ33_getLongUnaligned_78 : decode cJ33_getLongUnaligned 78 = .ok (.invokevirtual 47, 3) := dk_182 0 47 (dk_at dksJ33_getLongUnaligned_3 6 rfl rfl)
theorem dJ33_getLongUnaligned_81 : decode cJ33_getLongUnaligned 81 = .ok (.aload_n 0, 1) := dk_42 (dk_at dksJ33_getLongUnaligned_3 9 rfl rfl)
theorem dJ33_getLongUnaligned_82 : decode cJ33_getLongUnaligned 82 = .ok (.aload_n 1, 1) := dk_43 (dk_at dksJ33_getLongUnaligned_3 10 rfl rfl)
theorem dJ33_getLongUnaligned_83 : decode cJ33_getLongUnaligned 83 = .ok (.lload_n 2, 1) := dk_32 (dk_at dksJ33_getLongUnaligned_3 11 rfl rfl)
theorem dJ33_getLongUnaligned_84 : decode cJ33_getLongUnaligned 84 = .ok (.ldc2_w 702, 3) := dk_20 2 190 (dk_at dksJ33_getLongUnaligned_3 12 rfl rfl)
theorem dJ33_getLongUnaligned_87 : decode cJ33_getLongUnaligned 87 = .ok (.ladd, 1) := dk_97 (dk_at dksJ33_getLongUnaligned_3 15 rfl rfl)
theorem dJ33_getLongUnaligned_88 : decode cJ33_getLongUnaligned 88 = .ok (.invokevirtual 47, 3) := dk_182 0 47 (dk_at dksJ33_getLongUnaligned_3 16 rfl rfl)
theorem dJ33_getLongUnaligned_91 : decode cJ33_getLongUnaligned 91 = .ok (.invokestatic 704, 3) := dk_184 2 192 (dk_at dksJ33_getLongUnaligned_3 19 rfl rfl)
theorem dJ33_getLongUnaligned_94 : decode cJ33_getLongUnaligned 94 = .ok (.lreturn, 1) := dk_173 (dk_at dksJ33_getLongUnaligned_3 22 rfl rfl)
theorem dJ33_getLongUnaligned_95 : decode cJ33_getLongUnaligned 95 = .ok (.aload_n 0, 1) := dk_42 (dk_at dksJ33_getLongUnaligned_3 23 rfl rfl)
theorem dJ33_getLongUnaligned_96 : decode cJ33_getLongUnaligned 96 = .ok (.aload_n 1, 1) := dk_43 (dk_at dksJ33_getLongUnaligned_4 0 rfl rfl)
theorem dJ33_getLongUnaligned_97 : decode cJ33_getLongUnaligned 97 = .ok (.lload_n 2, 1) := dk_32 (dk_at dksJ33_getLongUnaligned_4 1 rfl rfl)
theorem dJ33_getLongUnaligned_98 : decode cJ33_getLongUnaligned 98 = .ok (.invokevirtual 39, 3) := dk_182 0 39 (dk_at dksJ33_getLongUnaligned_4 2 rfl rfl)
theorem dJ33_getLongUnaligned_101 : decode cJ33_getLongUnaligned 101 = .ok (.aload_n 0, 1) := dk_42 (dk_at dksJ33_getLongUnaligned_4 5 rfl rfl)
theorem dJ33_getLongUnaligned_102 : decode cJ33_getLongUnaligned 102 = .ok (.aload_n 1, 1) := dk_43 (dk_at dksJ33_getLongUnaligned_4 6 rfl rfl)
theorem dJ33_getLongUnaligned_103 : decode cJ33_getLongUnaligned 103 = .ok (.lload_n 2, 1) := dk_32 (dk_at dksJ33_getLongUnaligned_4 7 rfl rfl)
theorem dJ33_getLongUnaligned_104 : decode cJ33_getLongUnaligned 104 = .ok (.lconst 1, 1) := dk_10 (dk_at dksJ33_getLongUnaligned_4 8 rfl rfl)
theorem dJ33_getLongUnaligned_105 : decode cJ33_getLongUnaligned 105 = .ok (.ladd, 1) := dk_97 (dk_at dksJ33_getLongUnaligned_4 9 rfl rfl)
theorem dJ33_getLongUnaligned_106 : decode cJ33_getLongUnaligned 106 = .ok (.invokevirtual 39, 3) := dk_182 0 39 (dk_at dksJ33_getLongUnaligned_4 10 rfl rfl)
theorem dJ33_getLongUnaligned_109 : decode cJ33_getLongUnaligned 109 = .ok (.aload_n 0, 1) := dk_42 (dk_at dksJ33_getLongUnaligned_4 13 rfl rfl)
theorem dJ33_getLongUnaligned_110 : decode cJ33_getLongUnaligned 110 = .ok (.aload_n 1, 1) := dk_43 (dk_at dksJ33_getLongUnaligned_4 14 rfl rfl)
theorem dJ33_getLongUnaligned_111 : decode cJ33_getLongUnaligned 111 = .ok (.lload_n 2, 1) := dk_32 (dk_at dksJ33_getLongUnaligned_4 15 rfl rfl)
theorem dJ33_getLongUnaligned_112 : decode cJ33_getLongUnaligned 112 = .ok (.ldc2_w 203, 3) := dk_20 0 203 (dk_at dksJ33_getLongUnaligned_4 16 rfl rfl)
theorem dJ33_getLongUnaligned_115 : decode cJ33_getLongUnaligned 115 = .ok (.ladd, 1) := dk_97 (dk_at dksJ33_getLongUnaligned_4 19 rfl rfl)
theorem dJ33_getLongUnaligned_116 : decode cJ33_getLongUnaligned 116 = .ok (.invokevirtual 39, 3) := dk_182 0 39 (dk_at dksJ33_getLongUnaligned_4 20 rfl rfl)
theorem dJ33_getLongUnaligned_119 : decode cJ33_getLongUnaligned 119 = .ok (.aload_n 0, 1) := dk_42 (dk_at dksJ33_getLongUnaligned_4 23 rfl rfl)
theorem dJ33_getLongUnaligned_120 : decode cJ33_getLongUnaligned 120 = .ok (.aload_n 1, 1) := dk_43 (dk_at dksJ33_getLongUnaligned_5 0 rfl rfl)
theorem dJ33_getLongUnaligned_121 : decode cJ33_getLongUnaligned 121 = .ok (.lload_n 2, 1) := dk_32 (dk_at dksJ33_getLongUnaligned_5 1 rfl rfl)
theorem dJ33_getLongUnaligned_122 : decode cJ33_getLongUnaligned 122 = .ok (.ldc2_w 349, 3) := dk_20 1 93 (dk_at dksJ33_getLongUnaligned_5 2 rfl rfl)
theorem dJ33_getLongUnaligned_125 : decode cJ33_getLongUnaligned 125 = .ok (.ladd, 1) := dk_97 (dk_at dksJ33_getLongUnaligned_5 5 rfl rfl)
theorem dJ33_getLongUnaligned_126 : decode cJ33_getLongUnaligned 126 = .ok (.invokevirtual 39, 3) := dk_182 0 39 (dk_at dksJ33_getLongUnaligned_5 6 rfl rfl)
theorem dJ33_getLongUnaligned_129 : decode cJ33_getLongUnaligned 129 = .ok (.aload_n 0, 1) := dk_42 (dk_at dksJ33_getLongUnaligned_5 9 rfl rfl)
theorem dJ33_getLongUnaligned_130 : decode cJ33_getLongUnaligned 130 = .ok (.aload_n 1, 1) := dk_43 (dk_at dksJ33_getLongUnaligned_5 10 rfl rfl)
theorem dJ33_getLongUnaligned_131 : decode cJ33_getLongUnaligned 131 = .ok (.lload_n 2, 1) := dk_32 (dk_at dksJ33_getLongUnaligned_5 11 rfl rfl)
theorem dJ33_getLongUnaligned_132 : decode cJ33_getLongUnaligned 132 = .ok (.ldc2_w 205, 3) := dk_20 0 205 (dk_at dksJ33_getLongUnaligned_5 12 rfl rfl)
theorem dJ33_getLongUnaligned_135 : decode cJ33_getLongUnaligned 135 = .ok (.ladd, 1) := dk_97 (dk_at dksJ33_getLongUnaligned_5 15 rfl rfl)
theorem dJ33_getLongUnaligned_136 : decode cJ33_getLongUnaligned 136 = .ok (.invokevirtual 39, 3) := dk_182 0 39 (dk_at dksJ33_getLongUnaligned_5 16 rfl rfl)
theorem dJ33_getLongUnaligned_139 : decode cJ33_getLongUnaligned 139 = .ok (.aload_n 0, 1) := dk_42 (dk_at dksJ33_getLongUnaligned_5 19 rfl rfl)
theorem dJ33_getLongUnaligned_140 : decode cJ33_getLongUnaligned 140 = .ok (.aload_n 1, 1) := dk_43 (dk_at dksJ33_getLongUnaligned_5 20 rfl rfl)
theorem dJ33_getLongUnaligned_141 : decode cJ33_getLongUnaligned 141 = .ok (.lload_n 2, 1) := dk_32 (dk_at dksJ33_getLongUnaligned_5 21 rfl rfl)
theorem dJ33_getLongUnaligned_142 : decode cJ33_getLongUnaligned 142 = .ok (.ldc2_w 707, 3) := dk_20 2 195 (dk_at dksJ33_getLongUnaligned_6 0 rfl rfl)
theorem dJ33_getLongUnaligned_145 : decode cJ33_getLongUnaligned 145 = .ok (.ladd, 1) := dk_97 (dk_at dksJ33_getLongUnaligned_6 3 rfl rfl)
theorem dJ33_getLongUnaligned_146 : decode cJ33_getLongUnaligned 146 = .ok (.invokevirtual 39, 3) := dk_182 0 39 (dk_at dksJ33_getLongUnaligned_6 4 rfl rfl)
theorem dJ33_getLongUnaligned_149 : decode cJ33_getLongUnaligned 149 = .ok (.aload_n 0, 1) := dk_42 (dk_at dksJ33_getLongUnaligned_6 7 rfl rfl)
theorem dJ33_getLongUnaligned_150 : decode cJ33_getLongUnaligned 150 = .ok (.aload_n 1, 1) := dk_43 (dk_at dksJ33_getLongUnaligned_6 8 rfl rfl)
theorem dJ33_getLongUnaligned_151 : decode cJ33_getLongUnaligned 151 = .ok (.lload_n 2, 1) := dk_32 (dk_at dksJ33_getLongUnaligned_6 9 rfl rfl)
theorem dJ33_getLongUnaligned_152 : decode cJ33_getLongUnaligned 152 = .ok (.ldc2_w 702, 3) := dk_20 2 190 (dk_at dksJ33_getLongUnaligned_6 10 rfl rfl)
theorem dJ33_getLongUnaligned_155 : decode cJ33_getLongUnaligned 155 = .ok (.ladd, 1) := dk_97 (dk_at dksJ33_getLongUnaligned_6 13 rfl rfl)
theorem dJ33_getLongUnaligned_156 : decode cJ33_getLongUnaligned 156 = .ok (.invokevirtual 39, 3) := dk_182 0 39 (dk_at dksJ33_getLongUnaligned_6 14 rfl rfl)
theorem dJ33_getLongUnaligned_159 : decode cJ33_getLongUnaligned 159 = .ok (.aload_n 0, 1) := dk_42 (dk_at dksJ33_getLongUnaligned_6 17 rfl rfl)
theorem dJ33_getLongUnaligned_160 : decode cJ33_getLongUnaligned 160 = .ok (.aload_n 1, 1) := dk_43 (dk_at dksJ33_getLongUnaligned_6 18 rfl rfl)
theorem dJ33_getLongUnaligned_161 : decode cJ33_getLongUnaligned 161 = .ok (.lload_n 2, 1) := dk_32 (dk_at dksJ33_getLongUnaligned_6 19 rfl rfl)
theorem dJ33_getLongUnaligned_162 : decode cJ33_getLongUnaligned 162 = .ok (.ldc2_w 696, 3) := dk_20 2 184 (dk_at dksJ33_getLongUnaligned_6 20 rfl rfl)
theorem dJ33_getLongUnaligned_165 : decode cJ33_getLongUnaligned 165 = .ok (.ladd, 1) := dk_97 (dk_at dksJ33_getLongUnaligned_6 23 rfl rfl)
theorem dJ33_getLongUnaligned_166 : decode cJ33_getLongUnaligned 166 = .ok (.invokevirtual 39, 3) := dk_182 0 39 (dk_at dksJ33_getLongUnaligned_7 0 rfl rfl)
theorem dJ33_getLongUnaligned_169 : decode cJ33_getLongUnaligned 169 = .ok (.invokestatic 709, 3) := dk_184 2 197 (dk_at dksJ33_getLongUnaligned_7 3 rfl rfl)
theorem dJ33_getLongUnaligned_172 : decode cJ33_getLongUnaligned 172 = .ok (.lreturn, 1) := dk_173 (dk_at dksJ33_getLongUnaligned_7 6 rfl rfl)
abbrev cJ33_makeLong : ByteArray := prog_88_method_353_code
def yJ33_makeLong : MethodName := ⟨RJ33, "makeLong", "(II)J"⟩
def dkwJ33_makeLong_1 : List UInt8 := [173]
abbrev dktJ33_makeLong_1 : List UInt8 := dkwJ33_makeLong_1 ++ []
def dkwJ33_makeLong_0 : List UInt8 := [26, 184, 3, 23, 16, 32, 3, 184, 3, 16, 121, 27, 184, 3, 23, 16, 32, 16, 32, 184, 3, 16, 121, 129]
abbrev dktJ33_makeLong_0 : List UInt8 := dkwJ33_makeLong_0 ++ dktJ33_makeLong_1
theorem dksJ33_makeLong_0 : cJ33_makeLong.data.toList.drop 0 = dktJ33_makeLong_0 := by decide +kernel
theorem dksJ33_makeLong_1 : cJ33_makeLong.data.toList.drop 24 = dktJ33_makeLong_1 := dk_seg dksJ33_makeLong_0 24 rfl rfl
theorem dJ33_makeLong_0 : decode cJ33_makeLong 0 = .ok (.iload_n 0, 1) := dk_26 (dk_at dksJ33_makeLong_0 0 rfl rfl)
theorem dJ33_makeLong_1 : decode cJ33_makeLong 1 = .ok (.invokestatic 791, 3) := dk_184 3 23 (dk_at dksJ33_makeLong_0 1 rfl rfl)
theorem dJ33_makeLong_4 : decode cJ33_makeLong 4 = .ok (.bipush 32, 2) := dk_16 32 (dk_at dksJ33_makeLong_0 4 rfl rfl)
theorem dJ33_makeLong_6 : decode cJ33_makeLong 6 = .ok (.iconst 0, 1) := dk_3 (dk_at dksJ33_makeLong_0 6 rfl rfl)
theorem dJ33_makeLong_7 : decode cJ33_makeLong 7 = .ok (.invokestatic 784, 3) := dk_184 3 16 (dk_at dksJ33_makeLong_0 7 rfl rfl)
theorem dJ33_makeLong_10 : decode cJ33_makeLong 10 = .ok (.lshl, 1) := dk_121 (dk_at dksJ33_makeLong_0 10 rfl rfl)
theorem dJ33_makeLong_11 : decode cJ33_makeLong 11 = .ok (.iload_n 1, 1) := dk_27 (dk_at dksJ33_makeLong_0 11 rfl rfl)
theorem dJ33_makeLong_12 : decode cJ33_makeLong 12 = .ok (.invokestatic 791, 3) := dk_184 3 23 (dk_at dksJ33_makeLong_0 12 rfl rfl)
theorem dJ33_makeLong_15 : decode cJ33_makeLong 15 = .ok (.bipush 32, 2) := dk_16 32 (dk_at dksJ33_makeLong_0 15 rfl rfl)
theorem dJ33_makeLong_17 : decode cJ33_makeLong 17 = .ok (.bipush 32, 2) := dk_16 32 (dk_at dksJ33_makeLong_0 17 rfl rfl)
theorem dJ33_makeLong_19 : decode cJ33_makeLong 19 = .ok (.invokestatic 784, 3) := dk_184 3 16 (dk_at dksJ33_makeLong_0 19 rfl rfl)
theorem dJ33_makeLong_22 : decode cJ33_makeLong 22 = .ok (.lshl, 1) := dk_121 (dk_at dksJ33_makeLong_0 22 rfl rfl)
theorem dJ33_makeLong_23 : decode cJ33_makeLong 23 = .ok (.lor, 1) := dk_129 (dk_at dksJ33_makeLong_0 23 rfl rfl)
theorem dJ33_makeLong_24 : decode cJ33_makeLong 24 = .ok (.lreturn, 1) := dk_173 (dk_at dksJ33_makeLong_1 0 rfl rfl)
abbrev cJ33_toUnsignedLong : ByteArray := prog_88_method_370_code
def yJ33_toUnsignedLong : MethodName := ⟨RJ33, "toUnsignedLong", "(I)J"⟩
def dkwJ33_toUnsignedLong_0 : List UInt8 := [26, 133, 20, 3, 44, 127, 173]
abbrev dktJ33_toUnsignedLong_0 : List UInt8 := dkwJ33_toUnsignedLong_0 ++ []
theorem dksJ33_toUnsignedLong_0 : cJ33_toUnsignedLong.data.toList.drop 0 = dktJ33_toUnsignedLong_0 := by decide +kernel
theorem dJ33_toUnsignedLong_0 : decode cJ33_toUnsignedLong 0 = .ok (.iload_n 0, 1) := dk_26 (dk_at dksJ33_toUnsignedLong_0 0 rfl rfl)
theorem dJ33_toUnsignedLong_1 : decode cJ33_toUnsignedLong 1 = .ok (.i2l, 1) := dk_133 (dk_at dksJ33_toUnsignedLong_0 1 rfl rfl)
theorem dJ33_toUnsignedLong_2 : decode cJ33_toUnsignedLong 2 = .ok (.ldc2_w 812, 3) := dk_20 3 44 (dk_at dksJ33_toUnsignedLong_0 2 rfl rfl)
theorem dJ33_toUnsignedLong_5 : decode cJ33_toUnsignedLong 5 = .ok (.land, 1) := dk_127 (dk_at dksJ33_toUnsignedLong_0 5 rfl rfl)
theorem dJ33_toUnsignedLong_6 : decode cJ33_toUnsignedLong 6 = .ok (.lreturn, 1) := dk_173 (dk_at dksJ33_toUnsignedLong_0 6 rfl rfl)
abbrev cJ33_pickPos : ByteArray := prog_88_method_350_code
def yJ33_pickPos : MethodName := ⟨RJ33, "pickPos", "(II)I"⟩
def dkwJ33_pickPos_0 : List UInt8 := [178, 1, 95, 153, 0, 9, 26, 27, 100, 167, 0, 4, 27, 172]
abbrev dktJ33_pickPos_0 : List UInt8 := dkwJ33_pickPos_0 ++ []
theorem dksJ33_pickPos_0 : cJ33_pickPos.data.toList.drop 0 = dktJ33_pickPos_0 := by decide +kernel
theorem dJ33_pickPos_0 : decode cJ33_pickPos 0 = .ok (.getstatic 351, 3) := dk_178 1 95 (dk_at dksJ33_pickPos_0 0 rfl rfl)
theorem dJ33_pickPos_3 : decode cJ33_pickPos 3 = .ok (.ifCond .eq 9, 3) := dk_153 0 9 (dk_at dksJ33_pickPos_0 3 rfl rfl)
theorem dJ33_pickPos_6 : decode cJ33_pickPos 6 = .ok (.iload_n 0, 1) := dk_26 (dk_at dksJ33_pickPos_0 6 rfl rfl)
theorem dJ33_pickPos_7 : decode cJ33_pickPos 7 = .ok (.iload_n 1, 1) := dk_27 (dk_at dksJ33_pickPos_0 7 rfl rfl)
theorem dJ33_pickPos_8 : decode cJ33_pickPos 8 = .ok (.isub, 1) := dk_100 (dk_at dksJ33_pickPos_0 8 rfl rfl)
theorem dJ33_pickPos_9 : decode cJ33_pickPos 9 = .ok (.goto 4, 3) := dk_167 0 4 (dk_at dksJ33_pickPos_0 9 rfl rfl)
theorem dJ33_pickPos_12 : decode cJ33_pickPos 12 = .ok (.iload_n 1, 1) := dk_27 (dk_at dksJ33_pickPos_0 12 rfl rfl)
theorem dJ33_pickPos_13 : decode cJ33_pickPos 13 = .ok (.ireturn, 1) := dk_172 (dk_at dksJ33_pickPos_0 13 rfl rfl)
abbrev cJ33_makeLong_2 : ByteArray := prog_88_method_352_code
def yJ33_makeLong_2 : MethodName := ⟨RJ33, "makeLong", "(SSSS)J"⟩
def dkwJ33_makeLong_2_2 : List UInt8 := [121, 129, 173]
abbrev dktJ33_makeLong_2_2 : List UInt8 := dkwJ33_makeLong_2_2 ++ []
def dkwJ33_makeLong_2_1 : List UInt8 := [28, 184, 3, 20, 16, 48, 16, 32, 184, 3, 16, 121, 129, 29, 184, 3, 20, 16, 48, 16, 48, 184, 3, 16]
abbrev dktJ33_makeLong_2_1 : List UInt8 := dkwJ33_makeLong_2_1 ++ dktJ33_makeLong_2_2
def dkwJ33_makeLong_2_0 : List UInt8 := [26, 184, 3, 20, 16, 48, 3, 184, 3, 16, 121, 27, 184, 3, 20, 16, 48, 16, 16, 184, 3, 16, 121, 129]
abbrev dktJ33_makeLong_2_0 : List UInt8 := dkwJ33_makeLong_2_0 ++ dktJ33_makeLong_2_1
theorem dksJ33_makeLong_2_0 : cJ33_makeLong_2.data.toList.drop 0 = dktJ33_makeLong_2_0 := by decide +kernel
theorem dksJ33_makeLong_2_1 : cJ33_makeLong_2.data.toList.drop 24 = dktJ33_makeLong_2_1 := dk_seg dksJ33_makeLong_2_0 24 rfl rfl
theorem dksJ33_makeLong_2_2 : cJ33_makeLong_2.data.toList.drop 48 = dktJ33_makeLong_2_2 := dk_seg dksJ33_makeLong_2_1 24 rfl rfl
theorem dJ33_makeLong_2_0 : decode cJ33_makeLong_2 0 = .ok (.iload_n 0, 1) := dk_26 (dk_at dksJ33_makeLong_2_0 0 rfl rfl)
theorem dJ33_makeLong_2_1 : decode cJ33_makeLong_2 1 = .ok (.invokestatic 788, 3) := dk_184 3 20 (dk_at dksJ33_makeLong_2_0 1 rfl rfl)
theorem dJ33_makeLong_2_4 : decode cJ33_makeLong_2 4 = .ok (.bipush 48, 2) := dk_16 48 (dk_at dksJ33_makeLong_2_0 4 rfl rfl)
theorem dJ33_makeLong_2_6 : decode cJ33_makeLong_2 6 = .ok (.iconst 0, 1) := dk_3 (dk_at dksJ33_makeLong_2_0 6 rfl rfl)
theorem dJ33_makeLong_2_7 : decode cJ33_makeLong_2 7 = .ok (.invokestatic 784, 3) := dk_184 3 16 (dk_at dksJ33_makeLong_2_0 7 rfl rfl)
theorem dJ33_makeLong_2_10 : decode cJ33_makeLong_2 10 = .ok (.lshl, 1) := dk_121 (dk_at dksJ33_makeLong_2_0 10 rfl rfl)
theorem dJ33_makeLong_2_11 : decode cJ33_makeLong_2 11 = .ok (.iload_n 1, 1) := dk_27 (dk_at dksJ33_makeLong_2_0 11 rfl rfl)
theorem dJ33_makeLong_2_12 : decode cJ33_makeLong_2 12 = .ok (.invokestatic 788, 3) := dk_184 3 20 (dk_at dksJ33_makeLong_2_0 12 rfl rfl)
theorem dJ33_makeLong_2_15 : decode cJ33_makeLong_2 15 = .ok (.bipush 48, 2) := dk_16 48 (dk_at dksJ33_makeLong_2_0 15 rfl rfl)
theorem dJ33_makeLong_2_17 : decode cJ33_makeLong_2 17 = .ok (.bipush 16, 2) := dk_16 16 (dk_at dksJ33_makeLong_2_0 17 rfl rfl)
theorem dJ33_makeLong_2_19 : decode cJ33_makeLong_2 19 = .ok (.invokestatic 784, 3) := dk_184 3 16 (dk_at dksJ33_makeLong_2_0 19 rfl rfl)
theorem dJ33_makeLong_2_22 : decode cJ33_makeLong_2 22 = .ok (.lshl, 1) := dk_121 (dk_at dksJ33_makeLong_2_0 22 rfl rfl)
theorem dJ33_makeLong_2_23 : decode cJ33_makeLong_2 23 = .ok (.lor, 1) := dk_129 (dk_at dksJ33_makeLong_2_0 23 rfl rfl)
theorem dJ33_makeLong_2_24 : decode cJ33_makeLong_2 24 = .ok (.iload_n 2, 1) := dk_28 (dk_at dksJ33_makeLong_2_1 0 rfl rfl)
theorem dJ33_makeLong_2_25 : decode cJ33_makeLong_2 25 = .ok (.invokestatic 788, 3) := dk_184 3 20 (dk_at dksJ33_makeLong_2_1 1 rfl rfl)
theorem dJ33_makeLong_2_28 : decode cJ33_makeLong_2 28 = .ok (.bipush 48, 2) := dk_16 48 (dk_at dksJ33_makeLong_2_1 4 rfl rfl)
theorem dJ33_makeLong_2_30 : decode cJ33_makeLong_2 30 = .ok (.bipush 32, 2) := dk_16 32 (dk_at dksJ33_makeLong_2_1 6 rfl rfl)
theorem dJ33_makeLong_2_32 : decode cJ33_makeLong_2 32 = .ok (.invokestatic 784, 3) := dk_184 3 16 (dk_at dksJ33_makeLong_2_1 8 rfl rfl)
theorem dJ33_makeLong_2_35 : decode cJ33_makeLong_2 35 = .ok (.lshl, 1) := dk_121 (dk_at dksJ33_makeLong_2_1 11 rfl rfl)
theorem dJ33_makeLong_2_36 : decode cJ33_makeLong_2 36 = .ok (.lor, 1) := dk_129 (dk_at dksJ33_makeLong_2_1 12 rfl rfl)
theorem dJ33_makeLong_2_37 : decode cJ33_makeLong_2 37 = .ok (.iload_n 3, 1) := dk_29 (dk_at dksJ33_makeLong_2_1 13 rfl rfl)
theorem dJ33_makeLong_2_38 : decode cJ33_makeLong_2 38 = .ok (.invokestatic 788, 3) := dk_184 3 20 (dk_at dksJ33_makeLong_2_1 14 rfl rfl)
theorem dJ33_makeLong_2_41 : decode cJ33_makeLong_2 41 = .ok (.bipush 48, 2) := dk_16 48 (dk_at dksJ33_makeLong_2_1 17 rfl rfl)
theorem dJ33_makeLong_2_43 : decode cJ33_makeLong_2 43 = .ok (.bipush 48, 2) := dk_16 48 (dk_at dksJ33_makeLong_2_1 19 rfl rfl)
theorem dJ33_makeLong_2_45 : decode cJ33_makeLong_2 45 = .ok (.invokestatic 784, 3) := dk_184 3 16 (dk_at dksJ33_makeLong_2_1 21 rfl rfl)
theorem dJ33_makeLong_2_48 : decode cJ33_makeLong_2 48 = .ok (.lshl, 1) := dk_121 (dk_at dksJ33_makeLong_2_2 0 rfl rfl)
theorem dJ33_makeLong_2_49 : decode cJ33_makeLong_2 49 = .ok (.lor, 1) := dk_129 (dk_at dksJ33_makeLong_2_2 1 rfl rfl)
theorem dJ33_makeLong_2_50 : decode cJ33_makeLong_2 50 = .ok (.lreturn, 1) := dk_173 (dk_at dksJ33_makeLong_2_2 2 rfl rfl)
abbrev cJ33_toUnsignedLong_2 : ByteArray := prog_88_method_369_code
def yJ33_toUnsignedLong_2 : MethodName := ⟨RJ33, "toUnsignedLong", "(S)J"⟩
def dkwJ33_toUnsignedLong_2_0 : List UInt8 := [26, 133, 20, 3, 42, 127, 173]
abbrev dktJ33_toUnsignedLong_2_0 : List UInt8 := dkwJ33_toUnsignedLong_2_0 ++ []
theorem dksJ33_toUnsignedLong_2_0 : cJ33_toUnsignedLong_2.data.toList.drop 0 = dktJ33_toUnsignedLong_2_0 := by decide +kernel
theorem dJ33_toUnsignedLong_2_0 : decode cJ33_toUnsignedLong_2 0 = .ok (.iload_n 0, 1) := dk_26 (dk_at dksJ33_toUnsignedLong_2_0 0 rfl rfl)
theorem dJ33_toUnsignedLong_2_1 : decode cJ33_toUnsignedLong_2 1 = .ok (.i2l, 1) := dk_133 (dk_at dksJ33_toUnsignedLong_2_0 1 rfl rfl)
theorem dJ33_toUnsignedLong_2_2 : decode cJ33_toUnsignedLong_2 2 = .ok (.ldc2_w 810, 3) := dk_20 3 42 (dk_at dksJ33_toUnsignedLong_2_0 2 rfl rfl)
theorem dJ33_toUnsignedLong_2_5 : decode cJ33_toUnsignedLong_2 5 = .ok (.land, 1) := dk_127 (dk_at dksJ33_toUnsignedLong_2_0 5 rfl rfl)
theorem dJ33_toUnsignedLong_2_6 : decode cJ33_toUnsignedLong_2 6 = .ok (.lreturn, 1) := dk_173 (dk_at dksJ33_toUnsignedLong_2_0 6 rfl rfl)
abbrev cJ33_makeLong_3 : ByteArray := prog_88_method_351_code
def yJ33_makeLong_3 : MethodName := ⟨RJ33, "makeLong", "(BBBBBBBB)J"⟩
def dkwJ33_makeLong_3_4 : List UInt8 := [184, 3, 13, 16, 56, 16, 56, 184, 3, 16, 121, 129, 173]
abbrev dktJ33_makeLong_3_4 : List UInt8 := dkwJ33_makeLong_3_4 ++ []
def dkwJ33_makeLong_3_3 : List UInt8 := [16, 40, 184, 3, 16, 121, 129, 21, 6, 184, 3, 13, 16, 56, 16, 48, 184, 3, 16, 121, 129, 21, 7]
abbrev dktJ33_makeLong_3_3 : List UInt8 := dkwJ33_makeLong_3_3 ++ dktJ33_makeLong_3_4
def dkwJ33_makeLong_3_2 : List UInt8 := [121, 129, 21, 4, 184, 3, 13, 16, 56, 16, 32, 184, 3, 16, 121, 129, 21, 5, 184, 3, 13, 16, 56]
abbrev dktJ33_makeLong_3_2 : List UInt8 := dkwJ33_makeLong_3_2 ++ dktJ33_makeLong_3_3
def dkwJ33_makeLong_3_1 : List UInt8 := [28, 184, 3, 13, 16, 56, 16, 16, 184, 3, 16, 121, 129, 29, 184, 3, 13, 16, 56, 16, 24, 184, 3, 16]
abbrev dktJ33_makeLong_3_1 : List UInt8 := dkwJ33_makeLong_3_1 ++ dktJ33_makeLong_3_2
def dkwJ33_makeLong_3_0 : List UInt8 := [26, 184, 3, 13, 16, 56, 3, 184, 3, 16, 121, 27, 184, 3, 13, 16, 56, 16, 8, 184, 3, 16, 121, 129]
abbrev dktJ33_makeLong_3_0 : List UInt8 := dkwJ33_makeLong_3_0 ++ dktJ33_makeLong_3_1
theorem dksJ33_makeLong_3_0 : cJ33_makeLong_3.data.toList.drop 0 = dktJ33_makeLong_3_0 := by decide +kernel
theorem dksJ33_makeLong_3_1 : cJ33_makeLong_3.data.toList.drop 24 = dktJ33_makeLong_3_1 := dk_seg dksJ33_makeLong_3_0 24 rfl rfl
theorem dksJ33_makeLong_3_2 : cJ33_makeLong_3.data.toList.drop 48 = dktJ33_makeLong_3_2 := dk_seg dksJ33_makeLong_3_1 24 rfl rfl
theorem dksJ33_makeLong_3_3 : cJ33_makeLong_3.data.toList.drop 71 = dktJ33_makeLong_3_3 := dk_seg dksJ33_makeLong_3_2 23 rfl rfl
theorem dksJ33_makeLong_3_4 : cJ33_makeLong_3.data.toList.drop 94 = dktJ33_makeLong_3_4 := dk_seg dksJ33_makeLong_3_3 23 rfl rfl
theorem dJ33_makeLong_3_0 : decode cJ33_makeLong_3 0 = .ok (.iload_n 0, 1) := dk_26 (dk_at dksJ33_makeLong_3_0 0 rfl rfl)
theorem dJ33_makeLong_3_1 : decode cJ33_makeLong_3 1 = .ok (.invokestatic 781, 3) := dk_184 3 13 (dk_at dksJ33_makeLong_3_0 1 rfl rfl)
theorem dJ33_makeLong_3_4 : decode cJ33_makeLong_3 4 = .ok (.bipush 56, 2) := dk_16 56 (dk_at dksJ33_makeLong_3_0 4 rfl rfl)
theorem dJ33_makeLong_3_6 : decode cJ33_makeLong_3 6 = .ok (.iconst 0, 1) := dk_3 (dk_at dksJ33_makeLong_3_0 6 rfl rfl)
theorem dJ33_makeLong_3_7 : decode cJ33_makeLong_3 7 = .ok (.invokestatic 784, 3) := dk_184 3 16 (dk_at dksJ33_makeLong_3_0 7 rfl rfl)
theorem dJ33_makeLong_3_10 : decode cJ33_makeLong_3 10 = .ok (.lshl, 1) := dk_121 (dk_at dksJ33_makeLong_3_0 10 rfl rfl)
theorem dJ33_makeLong_3_11 : decode cJ33_makeLong_3 11 = .ok (.iload_n 1, 1) := dk_27 (dk_at dksJ33_makeLong_3_0 11 rfl rfl)
theorem dJ33_makeLong_3_12 : decode cJ33_makeLong_3 12 = .ok (.invokestatic 781, 3) := dk_184 3 13 (dk_at dksJ33_makeLong_3_0 12 rfl rfl)
theorem dJ33_makeLong_3_15 : decode cJ33_makeLong_3 15 = .ok (.bipush 56, 2) := dk_16 56 (dk_at dksJ33_makeLong_3_0 15 rfl rfl)
theorem dJ33_makeLong_3_17 : decode cJ33_makeLong_3 17 = .ok (.bipush 8, 2) := dk_16 8 (dk_at dksJ33_makeLong_3_0 17 rfl rfl)
theorem dJ33_makeLong_3_19 : decode cJ33_makeLong_3 19 = .ok (.invokestatic 784, 3) := dk_184 3 16 (dk_at dksJ33_makeLong_3_0 19 rfl rfl)
theorem dJ33_makeLong_3_22 : decode cJ33_makeLong_3 22 = .ok (.lshl, 1) := dk_121 (dk_at dksJ33_makeLong_3_0 22 rfl rfl)
theorem dJ33_makeLong_3_23 : decode cJ33_makeLong_3 23 = .ok (.lor, 1) := dk_129 (dk_at dksJ33_makeLong_3_0 23 rfl rfl)
theorem dJ33_makeLong_3_24 : decode cJ33_makeLong_3 24 = .ok (.iload_n 2, 1) := dk_28 (dk_at dksJ33_makeLong_3_1 0 rfl rfl)
theorem dJ33_makeLong_3_25 : decode cJ33_makeLong_3 25 = .ok (.invokestatic 781, 3) := dk_184 3 13 (dk_at dksJ33_makeLong_3_1 1 rfl rfl)
theorem dJ33_makeLong_3_28 : decode cJ33_makeLong_3 28 = .ok (.bipush 56, 2) := dk_16 56 (dk_at dksJ33_makeLong_3_1 4 rfl rfl)
theorem dJ33_makeLong_3_30 : decode cJ33_makeLong_3 30 = .ok (.bipush 16, 2) := dk_16 16 (dk_at dksJ33_makeLong_3_1 6 rfl rfl)
theorem dJ33_makeLong_3_32 : decode cJ33_makeLong_3 32 = .ok (.invokestatic 784, 3) := dk_184 3 16 (dk_at dksJ33_makeLong_3_1 8 rfl rfl)
theorem dJ33_makeLong_3_35 : decode cJ33_makeLong_3 35 = .ok (.lshl, 1) := dk_121 (dk_at dksJ33_makeLong_3_1 11 rfl rfl)
theorem dJ33_makeLong_3_36 : decode cJ33_makeLong_3 36 = .ok (.lor, 1) := dk_129 (dk_at dksJ33_makeLong_3_1 12 rfl rfl)
theorem dJ33_makeLong_3_37 : decode cJ33_makeLong_3 37 = .ok (.iload_n 3, 1) := dk_29 (dk_at dksJ33_makeLong_3_1 13 rfl rfl)
theorem dJ33_makeLong_3_38 : decode cJ33_makeLong_3 38 = .ok (.invokestatic 781, 3) := dk_184 3 13 (dk_at dksJ33_makeLong_3_1 14 rfl rfl)
theorem dJ33_makeLong_3_41 : decode cJ33_makeLong_3 41 = .ok (.bipush 56, 2) := dk_16 56 (dk_at dksJ33_makeLong_3_1 17 rfl rfl)
theorem dJ33_makeLong_3_43 : decode cJ33_makeLong_3 43 = .ok (.bipush 24, 2) := dk_16 24 (dk_at dksJ33_makeLong_3_1 19 rfl rfl)
theorem dJ33_makeLong_3_45 : decode cJ33_makeLong_3 45 = .ok (.invokestatic 784, 3) := dk_184 3 16 (dk_at dksJ33_makeLong_3_1 21 rfl rfl)
theorem dJ33_makeLong_3_48 : decode cJ33_makeLong_3 48 = .ok (.lshl, 1) := dk_121 (dk_at dksJ33_makeLong_3_2 0 rfl rfl)
theorem dJ33_makeLong_3_49 : decode cJ33_makeLong_3 49 = .ok (.lor, 1) := dk_129 (dk_at dksJ33_makeLong_3_2 1 rfl rfl)
theorem dJ33_makeLong_3_50 : decode cJ33_makeLong_3 50 = .ok (.iload 4, 2) := dk_21 4 (dk_at dksJ33_makeLong_3_2 2 rfl rfl)
theorem dJ33_makeLong_3_52 : decode cJ33_makeLong_3 52 = .ok (.invokestatic 781, 3) := dk_184 3 13 (dk_at dksJ33_makeLong_3_2 4 rfl rfl)
theorem dJ33_makeLong_3_55 : decode cJ33_makeLong_3 55 = .ok (.bipush 56, 2) := dk_16 56 (dk_at dksJ33_makeLong_3_2 7 rfl rfl)
theorem dJ33_makeLong_3_57 : decode cJ33_makeLong_3 57 = .ok (.bipush 32, 2) := dk_16 32 (dk_at dksJ33_makeLong_3_2 9 rfl rfl)
theorem dJ33_makeLong_3_59 : decode cJ33_makeLong_3 59 = .ok (.invokestatic 784, 3) := dk_184 3 16 (dk_at dksJ33_makeLong_3_2 11 rfl rfl)
theorem dJ33_makeLong_3_62 : decode cJ33_makeLong_3 62 = .ok (.lshl, 1) := dk_121 (dk_at dksJ33_makeLong_3_2 14 rfl rfl)
theorem dJ33_makeLong_3_63 : decode cJ33_makeLong_3 63 = .ok (.lor, 1) := dk_129 (dk_at dksJ33_makeLong_3_2 15 rfl rfl)
theorem dJ33_makeLong_3_64 : decode cJ33_makeLong_3 64 = .ok (.iload 5, 2) := dk_21 5 (dk_at dksJ33_makeLong_3_2 16 rfl rfl)
theorem dJ33_makeLong_3_66 : decode cJ33_makeLong_3 66 = .ok (.invokestatic 781, 3) := dk_184 3 13 (dk_at dksJ33_makeLong_3_2 18 rfl rfl)
theorem dJ33_makeLong_3_69 : decode cJ33_makeLong_3 69 = .ok (.bipush 56, 2) := dk_16 56 (dk_at dksJ33_makeLong_3_2 21 rfl rfl)
theorem dJ33_makeLong_3_71 : decode cJ33_makeLong_3 71 = .ok (.bipush 40, 2) := dk_16 40 (dk_at dksJ33_makeLong_3_3 0 rfl rfl)
theorem dJ33_makeLong_3_73 : decode cJ33_makeLong_3 73 = .ok (.invokestatic 784, 3) := dk_184 3 16 (dk_at dksJ33_makeLong_3_3 2 rfl rfl)
theorem dJ33_makeLong_3_76 : decode cJ33_makeLong_3 76 = .ok (.lshl, 1) := dk_121 (dk_at dksJ33_makeLong_3_3 5 rfl rfl)
theorem dJ33_makeLong_3_77 : decode cJ33_makeLong_3 77 = .ok (.lor, 1) := dk_129 (dk_at dksJ33_makeLong_3_3 6 rfl rfl)
theorem dJ33_makeLong_3_78 : decode cJ33_makeLong_3 78 = .ok (.iload 6, 2) := dk_21 6 (dk_at dksJ33_makeLong_3_3 7 rfl rfl)
theorem dJ33_makeLong_3_80 : decode cJ33_makeLong_3 80 = .ok (.invokestatic 781, 3) := dk_184 3 13 (dk_at dksJ33_makeLong_3_3 9 rfl rfl)
theorem dJ33_makeLong_3_83 : decode cJ33_makeLong_3 83 = .ok (.bipush 56, 2) := dk_16 56 (dk_at dksJ33_makeLong_3_3 12 rfl rfl)
theorem dJ33_makeLong_3_85 : decode cJ33_makeLong_3 85 = .ok (.bipush 48, 2) := dk_16 48 (dk_at dksJ33_makeLong_3_3 14 rfl rfl)
theorem dJ33_makeLong_3_87 : decode cJ33_makeLong_3 87 = .ok (.invokestatic 784, 3) := dk_184 3 16 (dk_at dksJ33_makeLong_3_3 16 rfl rfl)
theorem dJ33_makeLong_3_90 : decode cJ33_makeLong_3 90 = .ok (.lshl, 1) := dk_121 (dk_at dksJ33_makeLong_3_3 19 rfl rfl)
theorem dJ33_makeLong_3_91 : decode cJ33_makeLong_3 91 = .ok (.lor, 1) := dk_129 (dk_at dksJ33_makeLong_3_3 20 rfl rfl)
theorem dJ33_makeLong_3_92 : decode cJ33_makeLong_3 92 = .ok (.iload 7, 2) := dk_21 7 (dk_at dksJ33_makeLong_3_3 21 rfl rfl)
theorem dJ33_makeLong_3_94 : decode cJ33_makeLong_3 94 = .ok (.invokestatic 781, 3) := dk_184 3 13 (dk_at dksJ33_makeLong_3_4 0 rfl rfl)
theorem dJ33_makeLong_3_97 : decode cJ33_makeLong_3 97 = .ok (.bipush 56, 2) := dk_16 56 (dk_at dksJ33_makeLong_3_4 3 rfl rfl)
theorem dJ33_makeLong_3_99 : decode cJ33_makeLong_3 99 = .ok (.bipush 56, 2) := dk_16 56 (dk_at dksJ33_makeLong_3_4 5 rfl rfl)
theorem dJ33_makeLong_3_101 : decode cJ33_makeLong_3 101 = .ok (.invokestatic 784, 3) := dk_184 3 16 (dk_at dksJ33_makeLong_3_4 7 rfl rfl)
theorem dJ33_makeLong_3_104 : decode cJ33_makeLong_3 104 = .ok (.lshl, 1) := dk_121 (dk_at dksJ33_makeLong_3_4 10 rfl rfl)
theorem dJ33_makeLong_3_105 : decode cJ33_makeLong_3 105 = .ok (.lor, 1) := dk_129 (dk_at dksJ33_makeLong_3_4 11 rfl rfl)
theorem dJ33_makeLong_3_106 : decode cJ33_makeLong_3 106 = .ok (.lreturn, 1) := dk_173 (dk_at dksJ33_makeLong_3_4 12 rfl rfl)
abbrev cJ33_toUnsignedLong_3 : ByteArray := prog_88_method_368_code
def yJ33_toUnsignedLong_3 : MethodName := ⟨RJ33, "toUnsignedLong", "(B)J"⟩
def dkwJ33_toUnsignedLong_3_0 : List UInt8 := [26, 133, 20, 3, 40, 127, 173]
abbrev dktJ33_toUnsignedLong_3_0 : List UInt8 := dkwJ33_toUnsignedLong_3_0 ++ []
theorem dksJ33_toUnsignedLong_3_0 : cJ33_toUnsignedLong_3.data.toList.drop 0 = dktJ33_toUnsignedLong_3_0 := by decide +kernel
theorem dJ33_toUnsignedLong_3_0 : decode cJ33_toUnsignedLong_3 0 = .ok (.iload_n 0, 1) := dk_26 (dk_at dksJ33_toUnsignedLong_3_0 0 rfl rfl)
theorem dJ33_toUnsignedLong_3_1 : decode cJ33_toUnsignedLong_3 1 = .ok (.i2l, 1) := dk_133 (dk_at dksJ33_toUnsignedLong_3_0 1 rfl rfl)
theorem dJ33_toUnsignedLong_3_2 : decode cJ33_toUnsignedLong_3 2 = .ok (.ldc2_w 808, 3) := dk_20 3 40 (dk_at dksJ33_toUnsignedLong_3_0 2 rfl rfl)
theorem dJ33_toUnsignedLong_3_5 : decode cJ33_toUnsignedLong_3 5 = .ok (.land, 1) := dk_127 (dk_at dksJ33_toUnsignedLong_3_0 5 rfl rfl)
theorem dJ33_toUnsignedLong_3_6 : decode cJ33_toUnsignedLong_3 6 = .ok (.lreturn, 1) := dk_173 (dk_at dksJ33_toUnsignedLong_3_0 6 rfl rfl)
abbrev cJ33_getIntUnaligned : ByteArray := prog_88_method_336_code
def yJ33_getIntUnaligned : MethodName := ⟨RJ33, "getIntUnaligned", "(Ljava/lang/Object;J)I"⟩
def dkwJ33_getIntUnaligned_3 : List UInt8 := [43, 32, 20, 1, 93, 97, 182, 0, 39, 184, 2, 211, 172]
abbrev dktJ33_getIntUnaligned_3 : List UInt8 := dkwJ33_getIntUnaligned_3 ++ []
def dkwJ33_getIntUnaligned_2 : List UInt8 := [43, 32, 182, 0, 39, 42, 43, 32, 10, 97, 182, 0, 39, 42, 43, 32, 20, 0, 203, 97, 182, 0, 39, 42]
abbrev dktJ33_getIntUnaligned_2 : List UInt8 := dkwJ33_getIntUnaligned_2 ++ dktJ33_getIntUnaligned_3
def dkwJ33_getIntUnaligned_1 : List UInt8 := [154, 0, 23, 42, 43, 32, 182, 0, 47, 42, 43, 32, 20, 0, 203, 97, 182, 0, 47, 184, 2, 207, 172, 42]
abbrev dktJ33_getIntUnaligned_1 : List UInt8 := dkwJ33_getIntUnaligned_1 ++ dktJ33_getIntUnaligned_2
def dkwJ33_getIntUnaligned_0 : List UInt8 := [32, 20, 1, 93, 127, 9, 148, 154, 0, 10, 42, 43, 32, 182, 0, 17, 172, 32, 10, 127, 9, 148]
abbrev dktJ33_getIntUnaligned_0 : List UInt8 := dkwJ33_getIntUnaligned_0 ++ dktJ33_getIntUnaligned_1
theorem dksJ33_getIntUnaligned_0 : cJ33_getIntUnaligned.data.toList.drop 0 = dktJ33_getIntUnaligned_0 := by decide +kernel
theorem dksJ33_getIntUnaligned_1 : cJ33_getIntUnaligned.data.toList.drop 22 = dktJ33_getIntUnaligned_1 := dk_seg dksJ33_getIntUnaligned_0 22 rfl rfl
theorem dksJ33_getIntUnaligned_2 : cJ33_getIntUnaligned.data.toList.drop 46 = dktJ33_getIntUnaligned_2 := dk_seg dksJ33_getIntUnaligned_1 24 rfl rfl
theorem dksJ33_getIntUnaligned_3 : cJ33_getIntUnaligned.data.toList.drop 70 = dktJ33_getIntUnaligned_3 := dk_seg dksJ33_getIntUnaligned_2 24 rfl rfl
theorem dJ33_getIntUnaligned_0 : decode cJ33_getIntUnaligned 0 = .ok (.lload_n 2, 1) := dk_32 (dk_at dksJ33_getIntUnaligned_0 0 rfl rfl)
theorem dJ33_getIntUnaligned_1 : decode cJ33_getIntUnaligned 1 = .ok (.ldc2_w 349, 3) := dk_20 1 93 (dk_at dksJ33_getIntUnaligned_0 1 rfl rfl)
theorem dJ33_getIntUnaligned_4 : decode cJ33_getIntUnaligned 4 = .ok (.land, 1) := dk_127 (dk_at dksJ33_getIntUnaligned_0 4 rfl rfl)
theorem dJ33_getIntUnaligned_5 : decode cJ33_getIntUnaligned 5 = .ok (.lconst 0, 1) := dk_9 (dk_at dksJ33_getIntUnaligned_0 5 rfl rfl)
theorem dJ33_getIntUnaligned_6 : decode cJ33_getIntUnaligned 6 = .ok (.lcmp, 1) := dk_148 (dk_at dksJ33_getIntUnaligned_0 6 rfl rfl)
theorem dJ33_getIntUnaligned_7 : decode cJ33_getIntUnaligned 7 = .ok (.ifCond .ne 10, 3) := dk_154 0 10 (dk_at dksJ33_getIntUnaligned_0 7 rfl rfl)
theorem dJ33_getIntUnaligned_10 : decode cJ33_getIntUnaligned 10 = .ok (.aload_n 0, 1) := dk_42 (dk_at dksJ33_getIntUnaligned_0 10 rfl rfl)
theorem dJ33_getIntUnaligned_11 : decode cJ33_getIntUnaligned 11 = .ok (.aload_n 1, 1) := dk_43 (dk_at dksJ33_getIntUnaligned_0 11 rfl rfl)
theorem dJ33_getIntUnaligned_12 : decode cJ33_getIntUnaligned 12 = .ok (.lload_n 2, 1) := dk_32 (dk_at dksJ33_getIntUnaligned_0 12 rfl rfl)
theorem dJ33_getIntUnaligned_13 : decode cJ33_getIntUnaligned 13 = .ok (.invokevirtual 17, 3) := dk_182 0 17 (dk_at dksJ33_getIntUnaligned_0 13 rfl rfl)
theorem dJ33_getIntUnaligned_16 : decode cJ33_getIntUnaligned 16 = .ok (.ireturn, 1) := dk_172 (dk_at dksJ33_getIntUnaligned_0 16 rfl rfl)
theorem dJ33_getIntUnaligned_17 : decode cJ33_getIntUnaligned 17 = .ok (.lload_n 2, 1) := dk_32 (dk_at dksJ33_getIntUnaligned_0 17 rfl rfl)
theorem dJ33_getIntUnaligned_18 : decode cJ33_getIntUnaligned 18 = .ok (.lconst 1, 1) := dk_10 (dk_at dksJ33_getIntUnaligned_0 18 rfl rfl)
theorem dJ33_getIntUnaligned_19 : decode cJ33_getIntUnaligned 19 = .ok (.land, 1) := dk_127 (dk_at dksJ33_getIntUnaligned_0 19 rfl rfl)
theorem dJ33_getIntUnaligned_20 : decode cJ33_getIntUnaligned 20 = .ok (.lconst 0, 1) := dk_9 (dk_at dksJ33_getIntUnaligned_0 20 rfl rfl)
theorem dJ33_getIntUnaligned_21 : decode cJ33_getIntUnaligned 21 = .ok (.lcmp, 1) := dk_148 (dk_at dksJ33_getIntUnaligned_0 21 rfl rfl)
theorem dJ33_getIntUnaligned_22 : decode cJ33_getIntUnaligned 22 = .ok (.ifCond .ne 23, 3) := dk_154 0 23 (dk_at dksJ33_getIntUnaligned_1 0 rfl rfl)
theorem dJ33_getIntUnaligned_25 : decode cJ33_getIntUnaligned 25 = .ok (.aload_n 0, 1) := dk_42 (dk_at dksJ33_getIntUnaligned_1 3 rfl rfl)
theorem dJ33_getIntUnaligned_26 : decode cJ33_getIntUnaligned 26 = .ok (.aload_n 1, 1) := dk_43 (dk_at dksJ33_getIntUnaligned_1 4 rfl rfl)
theorem dJ33_getIntUnaligned_27 : decode cJ33_getIntUnaligned 27 = .ok (.lload_n 2, 1) := dk_32 (dk_at dksJ33_getIntUnaligned_1 5 rfl rfl)
theorem dJ33_getIntUnaligned_28 : decode cJ33_getIntUnaligned 28 = .ok (.invokevirtual 47, 3) := dk_182 0 47 (dk_at dksJ33_getIntUnaligned_1 6 rfl rfl)
theorem dJ33_getIntUnaligned_31 : decode cJ33_getIntUnaligned 31 = .ok (.aload_n 0, 1) := dk_42 (dk_at dksJ33_getIntUnaligned_1 9 rfl rfl)
theorem dJ33_getIntUnaligned_32 : decode cJ33_getIntUnaligned 32 = .ok (.aload_n 1, 1) := dk_43 (dk_at dksJ33_getIntUnaligned_1 10 rfl rfl)
theorem dJ33_getIntUnaligned_33 : decode cJ33_getIntUnaligned 33 = .ok (.lload_n 2, 1) := dk_32 (dk_at dksJ33_getIntUnaligned_1 11 rfl rfl)
theorem dJ33_getIntUnaligned_34 : decode cJ33_getIntUnaligned 34 = .ok (.ldc2_w 203, 3) := dk_20 0 203 (dk_at dksJ33_getIntUnaligned_1 12 rfl rfl)
theorem dJ33_getIntUnaligned_37 : decode cJ33_getIntUnaligned 37 = .ok (.ladd, 1) := dk_97 (dk_at dksJ33_getIntUnaligned_1 15 rfl rfl)
theorem dJ33_getIntUnaligned_38 : decode cJ33_getIntUnaligned 38 = .ok (.invokevirtual 47, 3) := dk_182 0 47 (dk_at dksJ33_getIntUnaligned_1 16 rfl rfl)
theorem dJ33_getIntUnaligned_41 : decode cJ33_getIntUnaligned 41 = .ok (.invokestatic 719, 3) := dk_184 2 207 (dk_at dksJ33_getIntUnaligned_1 19 rfl rfl)
theorem dJ33_getIntUnaligned_44 : decode cJ33_getIntUnaligned 44 = .ok (.ireturn, 1) := dk_172 (dk_at dksJ33_getIntUnaligned_1 22 rfl rfl)
theorem dJ33_getIntUnaligned_45 : decode cJ33_getIntUnaligned 45 = .ok (.aload_n 0, 1) := dk_42 (dk_at dksJ33_getIntUnaligned_1 23 rfl rfl)
theorem dJ33_getIntUnaligned_46 : decode cJ33_getIntUnaligned 46 = .ok (.aload_n 1, 1) := dk_43 (dk_at dksJ33_getIntUnaligned_2 0 rfl rfl)
theorem dJ33_getIntUnaligned_47 : decode cJ33_getIntUnaligned 47 = .ok (.lload_n 2, 1) := dk_32 (dk_at dksJ33_getIntUnaligned_2 1 rfl rfl)
theorem dJ33_getIntUnaligned_48 : decode cJ33_getIntUnaligned 48 = .ok (.invokevirtual 39, 3) := dk_182 0 39 (dk_at dksJ33_getIntUnaligned_2 2 rfl rfl)
theorem dJ33_getIntUnaligned_51 : decode cJ33_getIntUnaligned 51 = .ok (.aload_n 0, 1) := dk_42 (dk_at dksJ33_getIntUnaligned_2 5 rfl rfl)
theorem dJ33_getIntUnaligned_52 : decode cJ33_getIntUnaligned 52 = .ok (.aload_n 1, 1) := dk_43 (dk_at dksJ33_getIntUnaligned_2 6 rfl rfl)
theorem dJ33_getIntUnaligned_53 : decode cJ33_getIntUnaligned 53 = .ok (.lload_n 2, 1) := dk_32 (dk_at dksJ33_getIntUnaligned_2 7 rfl rfl)
theorem dJ33_getIntUnaligned_54 : decode cJ33_getIntUnaligned 54 = .ok (.lconst 1, 1) := dk_10 (dk_at dksJ33_getIntUnaligned_2 8 rfl rfl)
theorem dJ33_getIntUnaligned_55 : decode cJ33_getIntUnaligned 55 = .ok (.ladd, 1) := dk_97 (dk_at dksJ33_getIntUnaligned_2 9 rfl rfl)
theorem dJ33_getIntUnaligned_56 : decode cJ33_getIntUnaligned 56 = .ok (.invokevirtual 39, 3) := dk_182 0 39 (dk_at dksJ33_getIntUnaligned_2 10 rfl rfl)
theorem dJ33_getIntUnaligned_59 : decode cJ33_getIntUnaligned 59 = .ok (.aload_n 0, 1) := dk_42 (dk_at dksJ33_getIntUnaligned_2 13 rfl rfl)
theorem dJ33_getIntUnaligned_60 : decode cJ33_getIntUnaligned 60 = .ok (.aload_n 1, 1) := dk_43 (dk_at dksJ33_getIntUnaligned_2 14 rfl rfl)
theorem dJ33_getIntUnaligned_61 : decode cJ33_getIntUnaligned 61 = .ok (.lload_n 2, 1) := dk_32 (dk_at dksJ33_getIntUnaligned_2 15 rfl rfl)
theorem dJ33_getIntUnaligned_62 : decode cJ33_getIntUnaligned 62 = .ok (.ldc2_w 203, 3) := dk_20 0 203 (dk_at dksJ33_getIntUnaligned_2 16 rfl rfl)
theorem dJ33_getIntUnaligned_65 : decode cJ33_getIntUnaligned 65 = .ok (.ladd, 1) := dk_97 (dk_at dksJ33_getIntUnaligned_2 19 rfl rfl)
theorem dJ33_getIntUnaligned_66 : decode cJ33_getIntUnaligned 66 = .ok (.invokevirtual 39, 3) := dk_182 0 39 (dk_at dksJ33_getIntUnaligned_2 20 rfl rfl)
theorem dJ33_getIntUnaligned_69 : decode cJ33_getIntUnaligned 69 = .ok (.aload_n 0, 1) := dk_42 (dk_at dksJ33_getIntUnaligned_2 23 rfl rfl)
theorem dJ33_getIntUnaligned_70 : decode cJ33_getIntUnaligned 70 = .ok (.aload_n 1, 1) := dk_43 (dk_at dksJ33_getIntUnaligned_3 0 rfl rfl)
theorem dJ33_getIntUnaligned_71 : decode cJ33_getIntUnaligned 71 = .ok (.lload_n 2, 1) := dk_32 (dk_at dksJ33_getIntUnaligned_3 1 rfl rfl)
theorem dJ33_getIntUnaligned_72 : decode cJ33_getIntUnaligned 72 = .ok (.ldc2_w 349, 3) := dk_20 1 93 (dk_at dksJ33_getIntUnaligned_3 2 rfl rfl)
theorem dJ33_getIntUnaligned_75 : decode cJ33_getIntUnaligned 75 = .ok (.ladd, 1) := dk_97 (dk_at dksJ33_getIntUnaligned_3 5 rfl rfl)
theorem dJ33_getIntUnaligned_76 : decode cJ33_getIntUnaligned 76 = .ok (.invokevirtual 39, 3) := dk_182 0 39 (dk_at dksJ33_getIntUnaligned_3 6 rfl rfl)
theorem dJ33_getIntUnaligned_79 : decode cJ33_getIntUnaligned 79 = .ok (.invokestatic 723, 3) := dk_184 2 211 (dk_at dksJ33_getIntUnaligned_3 9 rfl rfl)
theorem dJ33_getIntUnaligned_82 : decode cJ33_getIntUnaligned 82 = .ok (.ireturn, 1) := dk_172 (dk_at dksJ33_getIntUnaligned_3 12 rfl rfl)
abbrev cJ33_makeInt : ByteArray := prog_88_method_354_code
def yJ33_makeInt : MethodName := ⟨RJ33, "makeInt", "(SS)I"⟩
def dkwJ33_makeInt_1 : List UInt8 := [172]
abbrev dktJ33_makeInt_1 : List UInt8 := dkwJ33_makeInt_1 ++ []
def dkwJ33_makeInt_0 : List UInt8 := [26, 184, 3, 24, 16, 16, 3, 184, 3, 16, 120, 27, 184, 3, 24, 16, 16, 16, 16, 184, 3, 16, 120, 128]
abbrev dktJ33_makeInt_0 : List UInt8 := dkwJ33_makeInt_0 ++ dktJ33_makeInt_1
theorem dksJ33_makeInt_0 : cJ33_makeInt.data.toList.drop 0 = dktJ33_makeInt_0 := by decide +kernel
theorem dksJ33_makeInt_1 : cJ33_makeInt.data.toList.drop 24 = dktJ33_makeInt_1 := dk_seg dksJ33_makeInt_0 24 rfl rfl
theorem dJ33_makeInt_0 : decode cJ33_makeInt 0 = .ok (.iload_n 0, 1) := dk_26 (dk_at dksJ33_makeInt_0 0 rfl rfl)
theorem dJ33_makeInt_1 : decode cJ33_makeInt 1 = .ok (.invokestatic 792, 3) := dk_184 3 24 (dk_at dksJ33_makeInt_0 1 rfl rfl)
theorem dJ33_makeInt_4 : decode cJ33_makeInt 4 = .ok (.bipush 16, 2) := dk_16 16 (dk_at dksJ33_makeInt_0 4 rfl rfl)
theorem dJ33_makeInt_6 : decode cJ33_makeInt 6 = .ok (.iconst 0, 1) := dk_3 (dk_at dksJ33_makeInt_0 6 rfl rfl)
theorem dJ33_makeInt_7 : decode cJ33_makeInt 7 = .ok (.invokestatic 784, 3) := dk_184 3 16 (dk_at dksJ33_makeInt_0 7 rfl rfl)
theorem dJ33_makeInt_10 : decode cJ33_makeInt 10 = .ok (.ishl, 1) := dk_120 (dk_at dksJ33_makeInt_0 10 rfl rfl)
theorem dJ33_makeInt_11 : decode cJ33_makeInt 11 = .ok (.iload_n 1, 1) := dk_27 (dk_at dksJ33_makeInt_0 11 rfl rfl)
theorem dJ33_makeInt_12 : decode cJ33_makeInt 12 = .ok (.invokestatic 792, 3) := dk_184 3 24 (dk_at dksJ33_makeInt_0 12 rfl rfl)
theorem dJ33_makeInt_15 : decode cJ33_makeInt 15 = .ok (.bipush 16, 2) := dk_16 16 (dk_at dksJ33_makeInt_0 15 rfl rfl)
theorem dJ33_makeInt_17 : decode cJ33_makeInt 17 = .ok (.bipush 16, 2) := dk_16 16 (dk_at dksJ33_makeInt_0 17 rfl rfl)
theorem dJ33_makeInt_19 : decode cJ33_makeInt 19 = .ok (.invokestatic 784, 3) := dk_184 3 16 (dk_at dksJ33_makeInt_0 19 rfl rfl)
theorem dJ33_makeInt_22 : decode cJ33_makeInt 22 = .ok (.ishl, 1) := dk_120 (dk_at dksJ33_makeInt_0 22 rfl rfl)
theorem dJ33_makeInt_23 : decode cJ33_makeInt 23 = .ok (.ior, 1) := dk_128 (dk_at dksJ33_makeInt_0 23 rfl rfl)
theorem dJ33_makeInt_24 : decode cJ33_makeInt 24 = .ok (.ireturn, 1) := dk_172 (dk_at dksJ33_makeInt_1 0 rfl rfl)
abbrev cJ33_toUnsignedInt : ByteArray := prog_88_method_367_code
def yJ33_toUnsignedInt : MethodName := ⟨RJ33, "toUnsignedInt", "(S)I"⟩
def dkwJ33_toUnsignedInt_0 : List UInt8 := [26, 19, 1, 118, 126, 172]
abbrev dktJ33_toUnsignedInt_0 : List UInt8 := dkwJ33_toUnsignedInt_0 ++ []
theorem dksJ33_toUnsignedInt_0 : cJ33_toUnsignedInt.data.toList.drop 0 = dktJ33_toUnsignedInt_0 := by decide +kernel
theorem dJ33_toUnsignedInt_0 : decode cJ33_toUnsignedInt 0 = .ok (.iload_n 0, 1) := dk_26 (dk_at dksJ33_toUnsignedInt_0 0 rfl rfl)
theorem dJ33_toUnsignedInt_1 : decode cJ33_toUnsignedInt 1 = .ok (.ldc_w 374, 3) := dk_19 1 118 (dk_at dksJ33_toUnsignedInt_0 1 rfl rfl)
theorem dJ33_toUnsignedInt_4 : decode cJ33_toUnsignedInt 4 = .ok (.iand, 1) := dk_126 (dk_at dksJ33_toUnsignedInt_0 4 rfl rfl)
theorem dJ33_toUnsignedInt_5 : decode cJ33_toUnsignedInt 5 = .ok (.ireturn, 1) := dk_172 (dk_at dksJ33_toUnsignedInt_0 5 rfl rfl)
abbrev cJ33_makeInt_2 : ByteArray := prog_88_method_355_code
def yJ33_makeInt_2 : MethodName := ⟨RJ33, "makeInt", "(BBBB)I"⟩
def dkwJ33_makeInt_2_2 : List UInt8 := [120, 128, 172]
abbrev dktJ33_makeInt_2_2 : List UInt8 := dkwJ33_makeInt_2_2 ++ []
def dkwJ33_makeInt_2_1 : List UInt8 := [28, 184, 3, 28, 16, 24, 16, 16, 184, 3, 16, 120, 128, 29, 184, 3, 28, 16, 24, 16, 24, 184, 3, 16]
abbrev dktJ33_makeInt_2_1 : List UInt8 := dkwJ33_makeInt_2_1 ++ dktJ33_makeInt_2_2
def dkwJ33_makeInt_2_0 : List UInt8 := [26, 184, 3, 28, 16, 24, 3, 184, 3, 16, 120, 27, 184, 3, 28, 16, 24, 16, 8, 184, 3, 16, 120, 128]
abbrev dktJ33_makeInt_2_0 : List UInt8 := dkwJ33_makeInt_2_0 ++ dktJ33_makeInt_2_1
theorem dksJ33_makeInt_2_0 : cJ33_makeInt_2.data.toList.drop 0 = dktJ33_makeInt_2_0 := by decide +kernel
theorem dksJ33_makeInt_2_1 : cJ33_makeInt_2.data.toList.drop 24 = dktJ33_makeInt_2_1 := dk_seg dksJ33_makeInt_2_0 24 rfl rfl
theorem dksJ33_makeInt_2_2 : cJ33_makeInt_2.data.toList.drop 48 = dktJ33_makeInt_2_2 := dk_seg dksJ33_makeInt_2_1 24 rfl rfl
theorem dJ33_makeInt_2_0 : decode cJ33_makeInt_2 0 = .ok (.iload_n 0, 1) := dk_26 (dk_at dksJ33_makeInt_2_0 0 rfl rfl)
theorem dJ33_makeInt_2_1 : decode cJ33_makeInt_2 1 = .ok (.invokestatic 796, 3) := dk_184 3 28 (dk_at dksJ33_makeInt_2_0 1 rfl rfl)
theorem dJ33_makeInt_2_4 : decode cJ33_makeInt_2 4 = .ok (.bipush 24, 2) := dk_16 24 (dk_at dksJ33_makeInt_2_0 4 rfl rfl)
theorem dJ33_makeInt_2_6 : decode cJ33_makeInt_2 6 = .ok (.iconst 0, 1) := dk_3 (dk_at dksJ33_makeInt_2_0 6 rfl rfl)
theorem dJ33_makeInt_2_7 : decode cJ33_makeInt_2 7 = .ok (.invokestatic 784, 3) := dk_184 3 16 (dk_at dksJ33_makeInt_2_0 7 rfl rfl)
theorem dJ33_makeInt_2_10 : decode cJ33_makeInt_2 10 = .ok (.ishl, 1) := dk_120 (dk_at dksJ33_makeInt_2_0 10 rfl rfl)
theorem dJ33_makeInt_2_11 : decode cJ33_makeInt_2 11 = .ok (.iload_n 1, 1) := dk_27 (dk_at dksJ33_makeInt_2_0 11 rfl rfl)
theorem dJ33_makeInt_2_12 : decode cJ33_makeInt_2 12 = .ok (.invokestatic 796, 3) := dk_184 3 28 (dk_at dksJ33_makeInt_2_0 12 rfl rfl)
theorem dJ33_makeInt_2_15 : decode cJ33_makeInt_2 15 = .ok (.bipush 24, 2) := dk_16 24 (dk_at dksJ33_makeInt_2_0 15 rfl rfl)
theorem dJ33_makeInt_2_17 : decode cJ33_makeInt_2 17 = .ok (.bipush 8, 2) := dk_16 8 (dk_at dksJ33_makeInt_2_0 17 rfl rfl)
theorem dJ33_makeInt_2_19 : decode cJ33_makeInt_2 19 = .ok (.invokestatic 784, 3) := dk_184 3 16 (dk_at dksJ33_makeInt_2_0 19 rfl rfl)
theorem dJ33_makeInt_2_22 : decode cJ33_makeInt_2 22 = .ok (.ishl, 1) := dk_120 (dk_at dksJ33_makeInt_2_0 22 rfl rfl)
theorem dJ33_makeInt_2_23 : decode cJ33_makeInt_2 23 = .ok (.ior, 1) := dk_128 (dk_at dksJ33_makeInt_2_0 23 rfl rfl)
theorem dJ33_makeInt_2_24 : decode cJ33_makeInt_2 24 = .ok (.iload_n 2, 1) := dk_28 (dk_at dksJ33_makeInt_2_1 0 rfl rfl)
theorem dJ33_makeInt_2_25 : decode cJ33_makeInt_2 25 = .ok (.invokestatic 796, 3) := dk_184 3 28 (dk_at dksJ33_makeInt_2_1 1 rfl rfl)
theorem dJ33_makeInt_2_28 : decode cJ33_makeInt_2 28 = .ok (.bipush 24, 2) := dk_16 24 (dk_at dksJ33_makeInt_2_1 4 rfl rfl)
theorem dJ33_makeInt_2_30 : decode cJ33_makeInt_2 30 = .ok (.bipush 16, 2) := dk_16 16 (dk_at dksJ33_makeInt_2_1 6 rfl rfl)
theorem dJ33_makeInt_2_32 : decode cJ33_makeInt_2 32 = .ok (.invokestatic 784, 3) := dk_184 3 16 (dk_at dksJ33_makeInt_2_1 8 rfl rfl)
theorem dJ33_makeInt_2_35 : decode cJ33_makeInt_2 35 = .ok (.ishl, 1) := dk_120 (dk_at dksJ33_makeInt_2_1 11 rfl rfl)
theorem dJ33_makeInt_2_36 : decode cJ33_makeInt_2 36 = .ok (.ior, 1) := dk_128 (dk_at dksJ33_makeInt_2_1 12 rfl rfl)
theorem dJ33_makeInt_2_37 : decode cJ33_makeInt_2 37 = .ok (.iload_n 3, 1) := dk_29 (dk_at dksJ33_makeInt_2_1 13 rfl rfl)
theorem dJ33_makeInt_2_38 : decode cJ33_makeInt_2 38 = .ok (.invokestatic 796, 3) := dk_184 3 28 (dk_at dksJ33_makeInt_2_1 14 rfl rfl)
theorem dJ33_makeInt_2_41 : decode cJ33_makeInt_2 41 = .ok (.bipush 24, 2) := dk_16 24 (dk_at dksJ33_makeInt_2_1 17 rfl rfl)
theorem dJ33_makeInt_2_43 : decode cJ33_makeInt_2 43 = .ok (.bipush 24, 2) := dk_16 24 (dk_at dksJ33_makeInt_2_1 19 rfl rfl)
theorem dJ33_makeInt_2_45 : decode cJ33_makeInt_2 45 = .ok (.invokestatic 784, 3) := dk_184 3 16 (dk_at dksJ33_makeInt_2_1 21 rfl rfl)
theorem dJ33_makeInt_2_48 : decode cJ33_makeInt_2 48 = .ok (.ishl, 1) := dk_120 (dk_at dksJ33_makeInt_2_2 0 rfl rfl)
theorem dJ33_makeInt_2_49 : decode cJ33_makeInt_2 49 = .ok (.ior, 1) := dk_128 (dk_at dksJ33_makeInt_2_2 1 rfl rfl)
theorem dJ33_makeInt_2_50 : decode cJ33_makeInt_2 50 = .ok (.ireturn, 1) := dk_172 (dk_at dksJ33_makeInt_2_2 2 rfl rfl)
abbrev cJ33_toUnsignedInt_2 : ByteArray := prog_88_method_366_code
def yJ33_toUnsignedInt_2 : MethodName := ⟨RJ33, "toUnsignedInt", "(B)I"⟩
def dkwJ33_toUnsignedInt_2_0 : List UInt8 := [26, 17, 0, 255, 126, 172]
abbrev dktJ33_toUnsignedInt_2_0 : List UInt8 := dkwJ33_toUnsignedInt_2_0 ++ []
theorem dksJ33_toUnsignedInt_2_0 : cJ33_toUnsignedInt_2.data.toList.drop 0 = dktJ33_toUnsignedInt_2_0 := by decide +kernel
theorem dJ33_toUnsignedInt_2_0 : decode cJ33_toUnsignedInt_2 0 = .ok (.iload_n 0, 1) := dk_26 (dk_at dksJ33_toUnsignedInt_2_0 0 rfl rfl)
theorem dJ33_toUnsignedInt_2_1 : decode cJ33_toUnsignedInt_2 1 = .ok (.sipush 255, 3) := dk_17 0 255 (dk_at dksJ33_toUnsignedInt_2_0 1 rfl rfl)
theorem dJ33_toUnsignedInt_2_4 : decode cJ33_toUnsignedInt_2 4 = .ok (.iand, 1) := dk_126 (dk_at dksJ33_toUnsignedInt_2_0 4 rfl rfl)
theorem dJ33_toUnsignedInt_2_5 : decode cJ33_toUnsignedInt_2 5 = .ok (.ireturn, 1) := dk_172 (dk_at dksJ33_toUnsignedInt_2_0 5 rfl rfl)
abbrev cJ34_numberOfLeadingZeros : ByteArray := prog_31_method_48_code
def yJ34_numberOfLeadingZeros : MethodName := ⟨RJ34, "numberOfLeadingZeros", "(J)I"⟩
def dkwJ34_numberOfLeadingZeros_1 : List UInt8 := [184, 1, 52, 172]
abbrev dktJ34_numberOfLeadingZeros_1 : List UInt8 := dkwJ34_numberOfLeadingZeros_1 ++ []
def dkwJ34_numberOfLeadingZeros_0 : List UInt8 := [30, 16, 32, 125, 136, 61, 28, 154, 0, 14, 16, 32, 30, 136, 184, 1, 52, 96, 167, 0, 7, 28]
abbrev dktJ34_numberOfLeadingZeros_0 : List UInt8 := dkwJ34_numberOfLeadingZeros_0 ++ dktJ34_numberOfLeadingZeros_1
theorem dksJ34_numberOfLeadingZeros_0 : cJ34_numberOfLeadingZeros.data.toList.drop 0 = dktJ34_numberOfLeadingZeros_0 := by decide +kernel
theorem dksJ34_numberOfLeadingZeros_1 : cJ34_numberOfLeadingZeros.data.toList.drop 22 = dktJ34_numberOfLeadingZeros_1 := dk_seg dksJ34_numberOfLeadingZeros_0 22 rfl rfl
theorem dJ34_numberOfLeadingZeros_0 : decode cJ34_numberOfLeadingZeros 0 = .ok (.lload_n 0, 1) := dk_30 (dk_at dksJ34_numberOfLeadingZeros_0 0 rfl rfl)
theorem dJ34_numberOfLeadingZeros_1 : decode cJ34_numberOfLeadingZeros 1 = .ok (.bipush 32, 2) := dk_16 32 (dk_at dksJ34_numberOfLeadingZeros_0 1 rfl rfl)
theorem dJ34_numberOfLeadingZeros_3 : decode cJ34_numberOfLeadingZeros 3 = .ok (.lushr, 1) := dk_125 (dk_at dksJ34_numberOfLeadingZeros_0 3 rfl rfl)
theorem dJ34_numberOfLeadingZeros_4 : decode cJ34_numberOfLeadingZeros 4 = .ok (.l2i, 1) := dk_136 (dk_at dksJ34_numberOfLeadingZeros_0 4 rfl rfl)
theorem dJ34_numberOfLeadingZeros_5 : decode cJ34_numberOfLeadingZeros 5 = .ok (.istore_n 2, 1) := dk_61 (dk_at dksJ34_numberOfLeadingZeros_0 5 rfl rfl)
theorem dJ34_numberOfLeadingZeros_6 : decode cJ34_numberOfLeadingZeros 6 = .ok (.iload_n 2, 1) := dk_28 (dk_at dksJ34_numberOfLeadingZeros_0 6 rfl rfl)
theorem dJ34_numberOfLeadingZeros_7 : decode cJ34_numberOfLeadingZeros 7 = .ok (.ifCond .ne 14, 3) := dk_154 0 14 (dk_at dksJ34_numberOfLeadingZeros_0 7 rfl rfl)
theorem dJ34_numberOfLeadingZeros_10 : decode cJ34_numberOfLeadingZeros 10 = .ok (.bipush 32, 2) := dk_16 32 (dk_at dksJ34_numberOfLeadingZeros_0 10 rfl rfl)
theorem dJ34_numberOfLeadingZeros_12 : decode cJ34_numberOfLeadingZeros 12 = .ok (.lload_n 0, 1) := dk_30 (dk_at dksJ34_numberOfLeadingZeros_0 12 rfl rfl)
theorem dJ34_numberOfLeadingZeros_13 : decode cJ34_numberOfLeadingZeros 13 = .ok (.l2i, 1) := dk_136 (dk_at dksJ34_numberOfLeadingZeros_0 13 rfl rfl)
theorem dJ34_numberOfLeadingZeros_14 : decode cJ34_numberOfLeadingZeros 14 = .ok (.invokestatic 308, 3) := dk_184 1 52 (dk_at dksJ34_numberOfLeadingZeros_0 14 rfl rfl)
theorem dJ34_numberOfLeadingZeros_17 : decode cJ34_numberOfLeadingZeros 17 = .ok (.iadd, 1) := dk_96 (dk_at dksJ34_numberOfLeadingZeros_0 17 rfl rfl)
theorem dJ34_numberOfLeadingZeros_18 : decode cJ34_numberOfLeadingZeros 18 = .ok (.goto 7, 3) := dk_167 0 7 (dk_at dksJ34_numberOfLeadingZeros_0 18 rfl rfl)
theorem dJ34_numberOfLeadingZeros_21 : decode cJ34_numberOfLeadingZeros 21 = .ok (.iload_n 2, 1) := dk_28 (dk_at dksJ34_numberOfLeadingZeros_0 21 rfl rfl)
theorem dJ34_numberOfLeadingZeros_22 : decode cJ34_numberOfLeadingZeros 22 = .ok (.invokestatic 308, 3) := dk_184 1 52 (dk_at dksJ34_numberOfLeadingZeros_1 0 rfl rfl)
theorem dJ34_numberOfLeadingZeros_25 : decode cJ34_numberOfLeadingZeros 25 = .ok (.ireturn, 1) := dk_172 (dk_at dksJ34_numberOfLeadingZeros_1 3 rfl rfl)
abbrev cJ34_numberOfTrailingZeros : ByteArray := prog_31_method_49_code
def yJ34_numberOfTrailingZeros : MethodName := ⟨RJ34, "numberOfTrailingZeros", "(J)I"⟩
def dkwJ34_numberOfTrailingZeros_1 : List UInt8 := [184, 1, 55, 172]
abbrev dktJ34_numberOfTrailingZeros_1 : List UInt8 := dkwJ34_numberOfTrailingZeros_1 ++ []
def dkwJ34_numberOfTrailingZeros_0 : List UInt8 := [30, 136, 61, 28, 154, 0, 17, 16, 32, 30, 16, 32, 125, 136, 184, 1, 55, 96, 167, 0, 7, 28]
abbrev dktJ34_numberOfTrailingZeros_0 : List UInt8 := dkwJ34_numberOfTrailingZeros_0 ++ dktJ34_numberOfTrailingZeros_1
theorem dksJ34_numberOfTrailingZeros_0 : cJ34_numberOfTrailingZeros.data.toList.drop 0 = dktJ34_numberOfTrailingZeros_0 := by decide +kernel
theorem dksJ34_numberOfTrailingZeros_1 : cJ34_numberOfTrailingZeros.data.toList.drop 22 = dktJ34_numberOfTrailingZeros_1 := dk_seg dksJ34_numberOfTrailingZeros_0 22 rfl rfl
theorem dJ34_numberOfTrailingZeros_0 : decode cJ34_numberOfTrailingZeros 0 = .ok (.lload_n 0, 1) := dk_30 (dk_at dksJ34_numberOfTrailingZeros_0 0 rfl rfl)
theorem dJ34_numberOfTrailingZeros_1 : decode cJ34_numberOfTrailingZeros 1 = .ok (.l2i, 1) := dk_136 (dk_at dksJ34_numberOfTrailingZeros_0 1 rfl rfl)
theorem dJ34_numberOfTrailingZeros_2 : decode cJ34_numberOfTrailingZeros 2 = .ok (.istore_n 2, 1) := dk_61 (dk_at dksJ34_numberOfTrailingZeros_0 2 rfl rfl)
theorem dJ34_numberOfTrailingZeros_3 : decode cJ34_numberOfTrailingZeros 3 = .ok (.iload_n 2, 1) := dk_28 (dk_at dksJ34_numberOfTrailingZeros_0 3 rfl rfl)
theorem dJ34_numberOfTrailingZeros_4 : decode cJ34_numberOfTrailingZeros 4 = .ok (.ifCond .ne 17, 3) := dk_154 0 17 (dk_at dksJ34_numberOfTrailingZeros_0 4 rfl rfl)
theorem dJ34_numberOfTrailingZeros_7 : decode cJ34_numberOfTrailingZeros 7 = .ok (.bipush 32, 2) := dk_16 32 (dk_at dksJ34_numberOfTrailingZeros_0 7 rfl rfl)
theorem dJ34_numberOfTrailingZeros_9 : decode cJ34_numberOfTrailingZeros 9 = .ok (.lload_n 0, 1) := dk_30 (dk_at dksJ34_numberOfTrailingZeros_0 9 rfl rfl)
theorem dJ34_numberOfTrailingZeros_10 : decode cJ34_numberOfTrailingZeros 10 = .ok (.bipush 32, 2) := dk_16 32 (dk_at dksJ34_numberOfTrailingZeros_0 10 rfl rfl)
theorem dJ34_numberOfTrailingZeros_12 : decode cJ34_numberOfTrailingZeros 12 = .ok (.lushr, 1) := dk_125 (dk_at dksJ34_numberOfTrailingZeros_0 12 rfl rfl)
theorem dJ34_numberOfTrailingZeros_13 : decode cJ34_numberOfTrailingZeros 13 = .ok (.l2i, 1) := dk_136 (dk_at dksJ34_numberOfTrailingZeros_0 13 rfl rfl)
theorem dJ34_numberOfTrailingZeros_14 : decode cJ34_numberOfTrailingZeros 14 = .ok (.invokestatic 311, 3) := dk_184 1 55 (dk_at dksJ34_numberOfTrailingZeros_0 14 rfl rfl)
theorem dJ34_numberOfTrailingZeros_17 : decode cJ34_numberOfTrailingZeros 17 = .ok (.iadd, 1) := dk_96 (dk_at dksJ34_numberOfTrailingZeros_0 17 rfl rfl)
theorem dJ34_numberOfTrailingZeros_18 : decode cJ34_numberOfTrailingZeros 18 = .ok (.goto 7, 3) := dk_167 0 7 (dk_at dksJ34_numberOfTrailingZeros_0 18 rfl rfl)
theorem dJ34_numberOfTrailingZeros_21 : decode cJ34_numberOfTrailingZeros 21 = .ok (.iload_n 2, 1) := dk_28 (dk_at dksJ34_numberOfTrailingZeros_0 21 rfl rfl)
theorem dJ34_numberOfTrailingZeros_22 : decode cJ34_numberOfTrailingZeros 22 = .ok (.invokestatic 311, 3) := dk_184 1 55 (dk_at dksJ34_numberOfTrailingZeros_1 0 rfl rfl)
theorem dJ34_numberOfTrailingZeros_25 : decode cJ34_numberOfTrailingZeros 25 = .ok (.ireturn, 1) := dk_172 (dk_at dksJ34_numberOfTrailingZeros_1 3 rfl rfl)
abbrev cJ35_next : ByteArray := prog_57_method_3_code
def yJ35_next : MethodName := ⟨RJ35, "next", "()Ljava/lang/Object;"⟩
def dkwJ35_next_2 : List UInt8 := [183, 0, 43, 191, 42, 27, 4, 96, 181, 0, 25, 44, 42, 27, 90, 181, 0, 13, 50, 176]
abbrev dktJ35_next_2 : List UInt8 := dkwJ35_next_2 ++ []
def dkwJ35_next_1 : List UInt8 := [183, 0, 36, 191, 42, 180, 0, 1, 180, 0, 37, 77, 27, 44, 190, 161, 0, 11, 187, 0, 41, 89]
abbrev dktJ35_next_1 : List UInt8 := dkwJ35_next_1 ++ dktJ35_next_2
def dkwJ35_next_0 : List UInt8 := [42, 182, 0, 31, 42, 180, 0, 25, 60, 27, 42, 180, 0, 1, 180, 0, 28, 161, 0, 11, 187, 0, 34, 89]
abbrev dktJ35_next_0 : List UInt8 := dkwJ35_next_0 ++ dktJ35_next_1
theorem dksJ35_next_0 : cJ35_next.data.toList.drop 0 = dktJ35_next_0 := by decide +kernel
theorem dksJ35_next_1 : cJ35_next.data.toList.drop 24 = dktJ35_next_1 := dk_seg dksJ35_next_0 24 rfl rfl
theorem dksJ35_next_2 : cJ35_next.data.toList.drop 46 = dktJ35_next_2 := dk_seg dksJ35_next_1 22 rfl rfl
theorem dJ35_next_0 : decode cJ35_next 0 = .ok (.aload_n 0, 1) := dk_42 (dk_at dksJ35_next_0 0 rfl rfl)
theorem dJ35_next_1 : decode cJ35_next 1 = .ok (.invokevirtual 31, 3) := dk_182 0 31 (dk_at dksJ35_next_0 1 rfl rfl)
theorem dJ35_next_4 : decode cJ35_next 4 = .ok (.aload_n 0, 1) := dk_42 (dk_at dksJ35_next_0 4 rfl rfl)
theorem dJ35_next_5 : decode cJ35_next 5 = .ok (.getfield 25, 3) := dk_180 0 25 (dk_at dksJ35_next_0 5 rfl rfl)
theorem dJ35_next_8 : decode cJ35_next 8 = .ok (.istore_n 1, 1) := dk_60 (dk_at dksJ35_next_0 8 rfl rfl)
theorem dJ35_next_9 : decode cJ35_next 9 = .ok (.iload_n 1, 1) := dk_27 (dk_at dksJ35_next_0 9 rfl rfl)
theorem dJ35_next_10 : decode cJ35_next 10 = .ok (.aload_n 0, 1) := dk_42 (dk_at dksJ35_next_0 10 rfl rfl)
theorem dJ35_next_11 : decode cJ35_next 11 = .ok (.getfield 1, 3) := dk_180 0 1 (dk_at dksJ35_next_0 11 rfl rfl)
theorem dJ35_next_14 : decode cJ35_next 14 = .ok (.getfield 28, 3) := dk_180 0 28 (dk_at dksJ35_next_0 14 rfl rfl)
theorem dJ35_next_17 : decode cJ35_next 17 = .ok (.if_icmp .lt 11, 3) := dk_161 0 11 (dk_at dksJ35_next_0 17 rfl rfl)
theorem dJ35_next_20 : decode cJ35_next 20 = .ok (.new 34, 3) := dk_187 0 34 (dk_at dksJ35_next_0 20 rfl rfl)
theorem dJ35_next_23 : decode cJ35_next 23 = .ok (.dup, 1) := dk_89 (dk_at dksJ35_next_0 23 rfl rfl)
theorem dJ35_next_24 : decode cJ35_next 24 = .ok (.invokespecial 36, 3) := dk_183 0 36 (dk_at dksJ35_next_1 0 rfl rfl)
theorem dJ35_next_27 : decode cJ35_next 27 = .ok (.athrow, 1) := dk_191 (dk_at dksJ35_next_1 3 rfl rfl)
theorem dJ35_next_28 : decode cJ35_next 28 = .ok (.aload_n 0, 1) := dk_42 (dk_at dksJ35_next_1 4 rfl rfl)
theorem dJ35_next_29 : decode cJ35_next 29 = .ok (.getfield 1, 3) := dk_180 0 1 (dk_at dksJ35_next_1 5 rfl rfl)
theorem dJ35_next_32 : decode cJ35_next 32 = .ok (.getfield 37, 3) := dk_180 0 37 (dk_at dksJ35_next_1 8 rfl rfl)
theorem dJ35_next_35 : decode cJ35_next 35 = .ok (.astore_n 2, 1) := dk_77 (dk_at dksJ35_next_1 11 rfl rfl)
theorem dJ35_next_36 : decode cJ35_next 36 = .ok (.iload_n 1, 1) := dk_27 (dk_at dksJ35_next_1 12 rfl rfl)
theorem dJ35_next_37 : decode cJ35_next 37 = .ok (.aload_n 2, 1) := dk_44 (dk_at dksJ35_next_1 13 rfl rfl)
theorem dJ35_next_38 : decode cJ35_next 38 = .ok (.arraylength, 1) := dk_190 (dk_at dksJ35_next_1 14 rfl rfl)
theorem dJ35_next_39 : decode cJ35_next 39 = .ok (.if_icmp .lt 11, 3) := dk_161 0 11 (dk_at dksJ35_next_1 15 rfl rfl)
theorem dJ35_next_42 : decode cJ35_next 42 = .ok (.new 41, 3) := dk_187 0 41 (dk_at dksJ35_next_1 18 rfl rfl)
theorem dJ35_next_45 : decode cJ35_next 45 = .ok (.dup, 1) := dk_89 (dk_at dksJ35_next_1 21 rfl rfl)
theorem dJ35_next_46 : decode cJ35_next 46 = .ok (.invokespecial 43, 3) := dk_183 0 43 (dk_at dksJ35_next_2 0 rfl rfl)
theorem dJ35_next_49 : decode cJ35_next 49 = .ok (.athrow, 1) := dk_191 (dk_at dksJ35_next_2 3 rfl rfl)
theorem dJ35_next_50 : decode cJ35_next 50 = .ok (.aload_n 0, 1) := dk_42 (dk_at dksJ35_next_2 4 rfl rfl)
theorem dJ35_next_51 : decode cJ35_next 51 = .ok (.iload_n 1, 1) := dk_27 (dk_at dksJ35_next_2 5 rfl rfl)
theorem dJ35_next_52 : decode cJ35_next 52 = .ok (.iconst 1, 1) := dk_4 (dk_at dksJ35_next_2 6 rfl rfl)
theorem dJ35_next_53 : decode cJ35_next 53 = .ok (.iadd, 1) := dk_96 (dk_at dksJ35_next_2 7 rfl rfl)
theorem dJ35_next_54 : decode cJ35_next 54 = .ok (.putfield 25, 3) := dk_181 0 25 (dk_at dksJ35_next_2 8 rfl rfl)
theorem dJ35_next_57 : decode cJ35_next 57 = .ok (.aload_n 2, 1) := dk_44 (dk_at dksJ35_next_2 11 rfl rfl)
theorem dJ35_next_58 : decode cJ35_next 58 = .ok (.aload_n 0, 1) := dk_42 (dk_at dksJ35_next_2 12 rfl rfl)
theorem dJ35_next_59 : decode cJ35_next 59 = .ok (.iload_n 1, 1) := dk_27 (dk_at dksJ35_next_2 13 rfl rfl)
theorem dJ35_next_60 : decode cJ35_next 60 = .ok (.dup_x1, 1) := dk_90 (dk_at dksJ35_next_2 14 rfl rfl)
theorem dJ35_next_61 : decode cJ35_next 61 = .ok (.putfield 13, 3) := dk_181 0 13 (dk_at dksJ35_next_2 15 rfl rfl)
theorem dJ35_next_64 : decode cJ35_next 64 = .ok (.aaload, 1) := dk_50 (dk_at dksJ35_next_2 18 rfl rfl)
theorem dJ35_next_65 : decode cJ35_next 65 = .ok (.areturn, 1) := dk_176 (dk_at dksJ35_next_2 19 rfl rfl)
abbrev cJ35_checkForComodification : ByteArray := prog_57_method_6_code
def yJ35_checkForComodification : MethodName := ⟨RJ35, "checkForComodification", "()V"⟩
def dkwJ35_checkForComodification_0 : List UInt8 := [42, 180, 0, 1, 180, 0, 17, 42, 180, 0, 22, 159, 0, 11, 187, 0, 41, 89, 183, 0, 43, 191, 177]
abbrev dktJ35_checkForComodification_0 : List UInt8 := dkwJ35_checkForComodification_0 ++ []
theorem dksJ35_checkForComodification_0 : cJ35_checkForComodification.data.toList.drop 0 = dktJ35_checkForComodification_0 := by decide +kernel
theorem dJ35_checkForComodification_0 : decode cJ35_checkForComodification 0 = .ok (.aload_n 0, 1) := dk_42 (dk_at dksJ35_checkForComodification_0 0 rfl rfl)
theorem dJ35_checkForComodification_1 : decode cJ35_checkForComodification 1 = .ok (.getfield 1, 3) := dk_180 0 1 (dk_at dksJ35_checkForComodification_0 1 rfl rfl)
theorem dJ35_checkForComodification_4 : decode cJ35_checkForComodification 4 = .ok (.getfield 17, 3) := dk_180 0 17 (dk_at dksJ35_checkForComodification_0 4 rfl rfl)
theorem dJ35_checkForComodification_7 : decode cJ35_checkForComodification 7 = .ok (.aload_n 0, 1) := dk_42 (dk_at dksJ35_checkForComodification_0 7 rfl rfl)
theorem dJ35_checkForComodification_8 : decode cJ35_checkForComodification 8 = .ok (.getfield 22, 3) := dk_180 0 22 (dk_at dksJ35_checkForComodification_0 8 rfl rfl)
theorem dJ35_checkForComodification_11 : decode cJ35_checkForComodification 11 = .ok (.if_icmp .eq 11, 3) := dk_159 0 11 (dk_at dksJ35_checkForComodification_0 11 rfl rfl)
theorem dJ35_checkForComodification_14 : decode cJ35_checkForComodification 14 = .ok (.new 41, 3) := dk_187 0 41 (dk_at dksJ35_checkForComodification_0 14 rfl rfl)
theorem dJ35_checkForComodification_17 : decode cJ35_checkForComodification 17 = .ok (.dup, 1) := dk_89 (dk_at dksJ35_checkForComodification_0 17 rfl rfl)
theorem dJ35_checkForComodification_18 : decode cJ35_checkForComodification 18 = .ok (.invokespecial 43, 3) := dk_183 0 43 (dk_at dksJ35_checkForComodification_0 18 rfl rfl)
theorem dJ35_checkForComodification_21 : decode cJ35_checkForComodification 21 = .ok (.athrow, 1) := dk_191 (dk_at dksJ35_checkForComodification_0 21 rfl rfl)
theorem dJ35_checkForComodification_22 : decode cJ35_checkForComodification 22 = .ok (.return_, 1) := dk_177 (dk_at dksJ35_checkForComodification_0 22 rfl rfl)
abbrev cJ35_hasNext : ByteArray := prog_57_method_2_code
def yJ35_hasNext : MethodName := ⟨RJ35, "hasNext", "()Z"⟩
def dkwJ35_hasNext_0 : List UInt8 := [42, 180, 0, 25, 42, 180, 0, 1, 180, 0, 28, 159, 0, 7, 4, 167, 0, 4, 3, 172]
abbrev dktJ35_hasNext_0 : List UInt8 := dkwJ35_hasNext_0 ++ []
theorem dksJ35_hasNext_0 : cJ35_hasNext.data.toList.drop 0 = dktJ35_hasNext_0 := by decide +kernel
theorem dJ35_hasNext_0 : decode cJ35_hasNext 0 = .ok (.aload_n 0, 1) := dk_42 (dk_at dksJ35_hasNext_0 0 rfl rfl)
theorem dJ35_hasNext_1 : decode cJ35_hasNext 1 = .ok (.getfield 25, 3) := dk_180 0 25 (dk_at dksJ35_hasNext_0 1 rfl rfl)
theorem dJ35_hasNext_4 : decode cJ35_hasNext 4 = .ok (.aload_n 0, 1) := dk_42 (dk_at dksJ35_hasNext_0 4 rfl rfl)
theorem dJ35_hasNext_5 : decode cJ35_hasNext 5 = .ok (.getfield 1, 3) := dk_180 0 1 (dk_at dksJ35_hasNext_0 5 rfl rfl)
theorem dJ35_hasNext_8 : decode cJ35_hasNext 8 = .ok (.getfield 28, 3) := dk_180 0 28 (dk_at dksJ35_hasNext_0 8 rfl rfl)
theorem dJ35_hasNext_11 : decode cJ35_hasNext 11 = .ok (.if_icmp .eq 7, 3) := dk_159 0 7 (dk_at dksJ35_hasNext_0 11 rfl rfl)
theorem dJ35_hasNext_14 : decode cJ35_hasNext 14 = .ok (.iconst 1, 1) := dk_4 (dk_at dksJ35_hasNext_0 14 rfl rfl)
theorem dJ35_hasNext_15 : decode cJ35_hasNext 15 = .ok (.goto 4, 3) := dk_167 0 4 (dk_at dksJ35_hasNext_0 15 rfl rfl)
theorem dJ35_hasNext_18 : decode cJ35_hasNext 18 = .ok (.iconst 0, 1) := dk_3 (dk_at dksJ35_hasNext_0 18 rfl rfl)
theorem dJ35_hasNext_19 : decode cJ35_hasNext 19 = .ok (.ireturn, 1) := dk_172 (dk_at dksJ35_hasNext_0 19 rfl rfl)
abbrev cJ35_init : ByteArray := prog_57_method_1_code
def yJ35_init : MethodName := ⟨RJ35, "<init>", "(Ljava/util/ArrayList;)V"⟩
def dkwJ35_init_1 : List UInt8 := [181, 0, 22, 177]
abbrev dktJ35_init_1 : List UInt8 := dkwJ35_init_1 ++ []
def dkwJ35_init_0 : List UInt8 := [42, 43, 181, 0, 1, 42, 183, 0, 7, 42, 2, 181, 0, 13, 42, 42, 180, 0, 1, 180, 0, 17]
abbrev dktJ35_init_0 : List UInt8 := dkwJ35_init_0 ++ dktJ35_init_1
theorem dksJ35_init_0 : cJ35_init.data.toList.drop 0 = dktJ35_init_0 := by decide +kernel
theorem dksJ35_init_1 : cJ35_init.data.toList.drop 22 = dktJ35_init_1 := dk_seg dksJ35_init_0 22 rfl rfl
theorem dJ35_init_0 : decode cJ35_init 0 = .ok (.aload_n 0, 1) := dk_42 (dk_at dksJ35_init_0 0 rfl rfl)
theorem dJ35_init_1 : decode cJ35_init 1 = .ok (.aload_n 1, 1) := dk_43 (dk_at dksJ35_init_0 1 rfl rfl)
theorem dJ35_init_2 : decode cJ35_init 2 = .ok (.putfield 1, 3) := dk_181 0 1 (dk_at dksJ35_init_0 2 rfl rfl)
theorem dJ35_init_5 : decode cJ35_init 5 = .ok (.aload_n 0, 1) := dk_42 (dk_at dksJ35_init_0 5 rfl rfl)
theorem dJ35_init_6 : decode cJ35_init 6 = .ok (.invokespecial 7, 3) := dk_183 0 7 (dk_at dksJ35_init_0 6 rfl rfl)
theorem dJ35_init_9 : decode cJ35_init 9 = .ok (.aload_n 0, 1) := dk_42 (dk_at dksJ35_init_0 9 rfl rfl)
theorem dJ35_init_10 : decode cJ35_init 10 = .ok (.iconst (-1), 1) := dk_2 (dk_at dksJ35_init_0 10 rfl rfl)
theorem dJ35_init_11 : decode cJ35_init 11 = .ok (.putfield 13, 3) := dk_181 0 13 (dk_at dksJ35_init_0 11 rfl rfl)
theorem dJ35_init_14 : decode cJ35_init 14 = .ok (.aload_n 0, 1) := dk_42 (dk_at dksJ35_init_0 14 rfl rfl)
theorem dJ35_init_15 : decode cJ35_init 15 = .ok (.aload_n 0, 1) := dk_42 (dk_at dksJ35_init_0 15 rfl rfl)
theorem dJ35_init_16 : decode cJ35_init 16 = .ok (.getfield 1, 3) := dk_180 0 1 (dk_at dksJ35_init_0 16 rfl rfl)
theorem dJ35_init_19 : decode cJ35_init 19 = .ok (.getfield 17, 3) := dk_180 0 17 (dk_at dksJ35_init_0 19 rfl rfl)
theorem dJ35_init_22 : decode cJ35_init 22 = .ok (.putfield 22, 3) := dk_181 0 22 (dk_at dksJ35_init_1 0 rfl rfl)
theorem dJ35_init_25 : decode cJ35_init 25 = .ok (.return_, 1) := dk_177 (dk_at dksJ35_init_1 3 rfl rfl)
abbrev cJ36_next : ByteArray := prog_48_method_3_code
def yJ36_next : MethodName := ⟨RJ36, "next", "()Ljava/lang/Object;"⟩
def dkwJ36_next_1 : List UInt8 := [27, 4, 96, 181, 0, 13, 44, 176, 76, 42, 182, 0, 32, 187, 0, 41, 89, 43, 183, 0, 43, 191]
abbrev dktJ36_next_1 : List UInt8 := dkwJ36_next_1 ++ []
def dkwJ36_next_0 : List UInt8 := [42, 182, 0, 32, 42, 180, 0, 13, 60, 42, 180, 0, 1, 27, 182, 0, 35, 77, 42, 27, 181, 0, 17, 42]
abbrev dktJ36_next_0 : List UInt8 := dkwJ36_next_0 ++ dktJ36_next_1
theorem dksJ36_next_0 : cJ36_next.data.toList.drop 0 = dktJ36_next_0 := by decide +kernel
theorem dksJ36_next_1 : cJ36_next.data.toList.drop 24 = dktJ36_next_1 := dk_seg dksJ36_next_0 24 rfl rfl
theorem dJ36_next_0 : decode cJ36_next 0 = .ok (.aload_n 0, 1) := dk_42 (dk_at dksJ36_next_0 0 rfl rfl)
theorem dJ36_next_1 : decode cJ36_next 1 = .ok (.invokevirtual 32, 3) := dk_182 0 32 (dk_at dksJ36_next_0 1 rfl rfl)
theorem dJ36_next_4 : decode cJ36_next 4 = .ok (.aload_n 0, 1) := dk_42 (dk_at dksJ36_next_0 4 rfl rfl)
theorem dJ36_next_5 : decode cJ36_next 5 = .ok (.getfield 13, 3) := dk_180 0 13 (dk_at dksJ36_next_0 5 rfl rfl)
theorem dJ36_next_8 : decode cJ36_next 8 = .ok (.istore_n 1, 1) := dk_60 (dk_at dksJ36_next_0 8 rfl rfl)
theorem dJ36_next_9 : decode cJ36_next 9 = .ok (.aload_n 0, 1) := dk_42 (dk_at dksJ36_next_0 9 rfl rfl)
theorem dJ36_next_10 : decode cJ36_next 10 = .ok (.getfield 1, 3) := dk_180 0 1 (dk_at dksJ36_next_0 10 rfl rfl)
theorem dJ36_next_13 : decode cJ36_next 13 = .ok (.iload_n 1, 1) := dk_27 (dk_at dksJ36_next_0 13 rfl rfl)
theorem dJ36_next_14 : decode cJ36_next 14 = .ok (.invokevirtual 35, 3) := dk_182 0 35 (dk_at dksJ36_next_0 14 rfl rfl)
theorem dJ36_next_17 : decode cJ36_next 17 = .ok (.astore_n 2, 1) := dk_77 (dk_at dksJ36_next_0 17 rfl rfl)
theorem dJ36_next_18 : decode cJ36_next 18 = .ok (.aload_n 0, 1) := dk_42 (dk_at dksJ36_next_0 18 rfl rfl)
theorem dJ36_next_19 : decode cJ36_next 19 = .ok (.iload_n 1, 1) := dk_27 (dk_at dksJ36_next_0 19 rfl rfl)
theorem dJ36_next_20 : decode cJ36_next 20 = .ok (.putfield 17, 3) := dk_181 0 17 (dk_at dksJ36_next_0 20 rfl rfl)
theorem dJ36_next_23 : decode cJ36_next 23 = .ok (.aload_n 0, 1) := dk_42 (dk_at dksJ36_next_0 23 rfl rfl)
theorem dJ36_next_24 : decode cJ36_next 24 = .ok (.iload_n 1, 1) := dk_27 (dk_at dksJ36_next_1 0 rfl rfl)
theorem dJ36_next_25 : decode cJ36_next 25 = .ok (.iconst 1, 1) := dk_4 (dk_at dksJ36_next_1 1 rfl rfl)
theorem dJ36_next_26 : decode cJ36_next 26 = .ok (.iadd, 1) := dk_96 (dk_at dksJ36_next_1 2 rfl rfl)
theorem dJ36_next_27 : decode cJ36_next 27 = .ok (.putfield 13, 3) := dk_181 0 13 (dk_at dksJ36_next_1 3 rfl rfl)
theorem dJ36_next_30 : decode cJ36_next 30 = .ok (.aload_n 2, 1) := dk_44 (dk_at dksJ36_next_1 6 rfl rfl)
theorem dJ36_next_31 : decode cJ36_next 31 = .ok (.areturn, 1) := dk_176 (dk_at dksJ36_next_1 7 rfl rfl)
theorem dJ36_next_32 : decode cJ36_next 32 = .ok (.astore_n 1, 1) := dk_76 (dk_at dksJ36_next_1 8 rfl rfl)
theorem dJ36_next_33 : decode cJ36_next 33 = .ok (.aload_n 0, 1) := dk_42 (dk_at dksJ36_next_1 9 rfl rfl)
theorem dJ36_next_34 : decode cJ36_next 34 = .ok (.invokevirtual 32, 3) := dk_182 0 32 (dk_at dksJ36_next_1 10 rfl rfl)
theorem dJ36_next_37 : decode cJ36_next 37 = .ok (.new 41, 3) := dk_187 0 41 (dk_at dksJ36_next_1 13 rfl rfl)
theorem dJ36_next_40 : decode cJ36_next 40 = .ok (.dup, 1) := dk_89 (dk_at dksJ36_next_1 16 rfl rfl)
theorem dJ36_next_41 : decode cJ36_next 41 = .ok (.aload_n 1, 1) := dk_43 (dk_at dksJ36_next_1 17 rfl rfl)
theorem dJ36_next_42 : decode cJ36_next 42 = .ok (.invokespecial 43, 3) := dk_183 0 43 (dk_at dksJ36_next_1 18 rfl rfl)
theorem dJ36_next_45 : decode cJ36_next 45 = .ok (.athrow, 1) := dk_191 (dk_at dksJ36_next_1 21 rfl rfl)
abbrev cJ36_checkForComodification : ByteArray := prog_48_method_5_code
def yJ36_checkForComodification : MethodName := ⟨RJ36, "checkForComodification", "()V"⟩
def dkwJ36_checkForComodification_0 : List UInt8 := [42, 180, 0, 1, 180, 0, 20, 42, 180, 0, 25, 159, 0, 11, 187, 0, 52, 89, 183, 0, 54, 191, 177]
abbrev dktJ36_checkForComodification_0 : List UInt8 := dkwJ36_checkForComodification_0 ++ []
theorem dksJ36_checkForComodification_0 : cJ36_checkForComodification.data.toList.drop 0 = dktJ36_checkForComodification_0 := by decide +kernel
theorem dJ36_checkForComodification_0 : decode cJ36_checkForComodification 0 = .ok (.aload_n 0, 1) := dk_42 (dk_at dksJ36_checkForComodification_0 0 rfl rfl)
theorem dJ36_checkForComodification_1 : decode cJ36_checkForComodification 1 = .ok (.getfield 1, 3) := dk_180 0 1 (dk_at dksJ36_checkForComodification_0 1 rfl rfl)
theorem dJ36_checkForComodification_4 : decode cJ36_checkForComodification 4 = .ok (.getfield 20, 3) := dk_180 0 20 (dk_at dksJ36_checkForComodification_0 4 rfl rfl)
theorem dJ36_checkForComodification_7 : decode cJ36_checkForComodification 7 = .ok (.aload_n 0, 1) := dk_42 (dk_at dksJ36_checkForComodification_0 7 rfl rfl)
theorem dJ36_checkForComodification_8 : decode cJ36_checkForComodification 8 = .ok (.getfield 25, 3) := dk_180 0 25 (dk_at dksJ36_checkForComodification_0 8 rfl rfl)
theorem dJ36_checkForComodification_11 : decode cJ36_checkForComodification 11 = .ok (.if_icmp .eq 11, 3) := dk_159 0 11 (dk_at dksJ36_checkForComodification_0 11 rfl rfl)
theorem dJ36_checkForComodification_14 : decode cJ36_checkForComodification 14 = .ok (.new 52, 3) := dk_187 0 52 (dk_at dksJ36_checkForComodification_0 14 rfl rfl)
theorem dJ36_checkForComodification_17 : decode cJ36_checkForComodification 17 = .ok (.dup, 1) := dk_89 (dk_at dksJ36_checkForComodification_0 17 rfl rfl)
theorem dJ36_checkForComodification_18 : decode cJ36_checkForComodification 18 = .ok (.invokespecial 54, 3) := dk_183 0 54 (dk_at dksJ36_checkForComodification_0 18 rfl rfl)
theorem dJ36_checkForComodification_21 : decode cJ36_checkForComodification 21 = .ok (.athrow, 1) := dk_191 (dk_at dksJ36_checkForComodification_0 21 rfl rfl)
theorem dJ36_checkForComodification_22 : decode cJ36_checkForComodification 22 = .ok (.return_, 1) := dk_177 (dk_at dksJ36_checkForComodification_0 22 rfl rfl)
abbrev cJ36_hasNext : ByteArray := prog_48_method_2_code
def yJ36_hasNext : MethodName := ⟨RJ36, "hasNext", "()Z"⟩
def dkwJ36_hasNext_0 : List UInt8 := [42, 180, 0, 13, 42, 180, 0, 1, 182, 0, 28, 159, 0, 7, 4, 167, 0, 4, 3, 172]
abbrev dktJ36_hasNext_0 : List UInt8 := dkwJ36_hasNext_0 ++ []
theorem dksJ36_hasNext_0 : cJ36_hasNext.data.toList.drop 0 = dktJ36_hasNext_0 := by decide +kernel
theorem dJ36_hasNext_0 : decode cJ36_hasNext 0 = .ok (.aload_n 0, 1) := dk_42 (dk_at dksJ36_hasNext_0 0 rfl rfl)
theorem dJ36_hasNext_1 : decode cJ36_hasNext 1 = .ok (.getfield 13, 3) := dk_180 0 13 (dk_at dksJ36_hasNext_0 1 rfl rfl)
theorem dJ36_hasNext_4 : decode cJ36_hasNext 4 = .ok (.aload_n 0, 1) := dk_42 (dk_at dksJ36_hasNext_0 4 rfl rfl)
theorem dJ36_hasNext_5 : decode cJ36_hasNext 5 = .ok (.getfield 1, 3) := dk_180 0 1 (dk_at dksJ36_hasNext_0 5 rfl rfl)
theorem dJ36_hasNext_8 : decode cJ36_hasNext 8 = .ok (.invokevirtual 28, 3) := dk_182 0 28 (dk_at dksJ36_hasNext_0 8 rfl rfl)
theorem dJ36_hasNext_11 : decode cJ36_hasNext 11 = .ok (.if_icmp .eq 7, 3) := dk_159 0 7 (dk_at dksJ36_hasNext_0 11 rfl rfl)
theorem dJ36_hasNext_14 : decode cJ36_hasNext 14 = .ok (.iconst 1, 1) := dk_4 (dk_at dksJ36_hasNext_0 14 rfl rfl)
theorem dJ36_hasNext_15 : decode cJ36_hasNext 15 = .ok (.goto 4, 3) := dk_167 0 4 (dk_at dksJ36_hasNext_0 15 rfl rfl)
theorem dJ36_hasNext_18 : decode cJ36_hasNext 18 = .ok (.iconst 0, 1) := dk_3 (dk_at dksJ36_hasNext_0 18 rfl rfl)
theorem dJ36_hasNext_19 : decode cJ36_hasNext 19 = .ok (.ireturn, 1) := dk_172 (dk_at dksJ36_hasNext_0 19 rfl rfl)
abbrev cJ37_init : ByteArray := prog_58_method_1_code
def yJ37_init : MethodName := ⟨RJ37, "<init>", "(Ljava/util/ArrayList;I)V"⟩
def dkwJ37_init_0 : List UInt8 := [42, 43, 181, 0, 1, 42, 43, 183, 0, 7, 42, 28, 181, 0, 13, 177]
abbrev dktJ37_init_0 : List UInt8 := dkwJ37_init_0 ++ []
theorem dksJ37_init_0 : cJ37_init.data.toList.drop 0 = dktJ37_init_0 := by decide +kernel
theorem dJ37_init_0 : decode cJ37_init 0 = .ok (.aload_n 0, 1) := dk_42 (dk_at dksJ37_init_0 0 rfl rfl)
theorem dJ37_init_1 : decode cJ37_init 1 = .ok (.aload_n 1, 1) := dk_43 (dk_at dksJ37_init_0 1 rfl rfl)
theorem dJ37_init_2 : decode cJ37_init 2 = .ok (.putfield 1, 3) := dk_181 0 1 (dk_at dksJ37_init_0 2 rfl rfl)
theorem dJ37_init_5 : decode cJ37_init 5 = .ok (.aload_n 0, 1) := dk_42 (dk_at dksJ37_init_0 5 rfl rfl)
theorem dJ37_init_6 : decode cJ37_init 6 = .ok (.aload_n 1, 1) := dk_43 (dk_at dksJ37_init_0 6 rfl rfl)
theorem dJ37_init_7 : decode cJ37_init 7 = .ok (.invokespecial 7, 3) := dk_183 0 7 (dk_at dksJ37_init_0 7 rfl rfl)
theorem dJ37_init_10 : decode cJ37_init 10 = .ok (.aload_n 0, 1) := dk_42 (dk_at dksJ37_init_0 10 rfl rfl)
theorem dJ37_init_11 : decode cJ37_init 11 = .ok (.iload_n 2, 1) := dk_28 (dk_at dksJ37_init_0 11 rfl rfl)
theorem dJ37_init_12 : decode cJ37_init 12 = .ok (.putfield 13, 3) := dk_181 0 13 (dk_at dksJ37_init_0 12 rfl rfl)
theorem dJ37_init_15 : decode cJ37_init 15 = .ok (.return_, 1) := dk_177 (dk_at dksJ37_init_0 15 rfl rfl)
abbrev cJ38_next : ByteArray := prog_65_method_3_code
def yJ38_next : MethodName := ⟨RJ38, "next", "()Ljava/lang/Object;"⟩
def dkwJ38_next_2 : List UInt8 := [42, 180, 0, 46, 180, 0, 52, 176]
abbrev dktJ38_next_2 : List UInt8 := dkwJ38_next_2 ++ []
def dkwJ38_next_1 : List UInt8 := [181, 0, 46, 42, 42, 180, 0, 29, 180, 0, 49, 181, 0, 29, 42, 89, 180, 0, 33, 4, 96, 181, 0, 33]
abbrev dktJ38_next_1 : List UInt8 := dkwJ38_next_1 ++ dktJ38_next_2
def dkwJ38_next_0 : List UInt8 := [42, 182, 0, 36, 42, 182, 0, 39, 154, 0, 11, 187, 0, 43, 89, 183, 0, 45, 191, 42, 42, 180, 0, 29]
abbrev dktJ38_next_0 : List UInt8 := dkwJ38_next_0 ++ dktJ38_next_1
theorem dksJ38_next_0 : cJ38_next.data.toList.drop 0 = dktJ38_next_0 := by decide +kernel
theorem dksJ38_next_1 : cJ38_next.data.toList.drop 24 = dktJ38_next_1 := dk_seg dksJ38_next_0 24 rfl rfl
theorem dksJ38_next_2 : cJ38_next.data.toList.drop 48 = dktJ38_next_2 := dk_seg dksJ38_next_1 24 rfl rfl
theorem dJ38_next_0 : decode cJ38_next 0 = .ok (.aload_n 0, 1) := dk_42 (dk_at dksJ38_next_0 0 rfl rfl)
theorem dJ38_next_1 : decode cJ38_next 1 = .ok (.invokevirtual 36, 3) := dk_182 0 36 (dk_at dksJ38_next_0 1 rfl rfl)
theorem dJ38_next_4 : decode cJ38_next 4 = .ok (.aload_n 0, 1) := dk_42 (dk_at dksJ38_next_0 4 rfl rfl)
theorem dJ38_next_5 : decode cJ38_next 5 = .ok (.invokevirtual 39, 3) := dk_182 0 39 (dk_at dksJ38_next_0 5 rfl rfl)
theorem dJ38_next_8 : decode cJ38_next 8 = .ok (.ifCond .ne 11, 3) := dk_154 0 11 (dk_at dksJ38_next_0 8 rfl rfl)
theorem dJ38_next_11 : decode cJ38_next 11 = .ok (.new 43, 3) := dk_187 0 43 (dk_at dksJ38_next_0 11 rfl rfl)
theorem dJ38_next_14 : decode cJ38_next 14 = .ok (.dup, 1) := dk_89 (dk_at dksJ38_next_0 14 rfl rfl)
theorem dJ38_next_15 : decode cJ38_next 15 = .ok (.invokespecial 45, 3) := dk_183 0 45 (dk_at dksJ38_next_0 15 rfl rfl)
theorem dJ38_next_18 : decode cJ38_next 18 = .ok (.athrow, 1) := dk_191 (dk_at dksJ38_next_0 18 rfl rfl)
theorem dJ38_next_19 : decode cJ38_next 19 = .ok (.aload_n 0, 1) := dk_42 (dk_at dksJ38_next_0 19 rfl rfl)
theorem dJ38_next_20 : decode cJ38_next 20 = .ok (.aload_n 0, 1) := dk_42 (dk_at dksJ38_next_0 20 rfl rfl)
theorem dJ38_next_21 : decode cJ38_next 21 = .ok (.getfield 29, 3) := dk_180 0 29 (dk_at dksJ38_next_0 21 rfl rfl)
theorem dJ38_next_24 : decode cJ38_next 24 = .ok (.putfield 46, 3) := dk_181 0 46 (dk_at dksJ38_next_1 0 rfl rfl)
theorem dJ38_next_27 : decode cJ38_next 27 = .ok (.aload_n 0, 1) := dk_42 (dk_at dksJ38_next_1 3 rfl rfl)
theorem dJ38_next_28 : decode cJ38_next 28 = .ok (.aload_n 0, 1) := dk_42 (dk_at dksJ38_next_1 4 rfl rfl)
theorem dJ38_next_29 : decode cJ38_next 29 = .ok (.getfield 29, 3) := dk_180 0 29 (dk_at dksJ38_next_1 5 rfl rfl)
theorem dJ38_next_32 : decode cJ38_next 32 = .ok (.getfield 49, 3) := dk_180 0 49 (dk_at dksJ38_next_1 8 rfl rfl)
theorem dJ38_next_35 : decode cJ38_next 35 = .ok (.putfield 29, 3) := dk_181 0 29 (dk_at dksJ38_next_1 11 rfl rfl)
theorem dJ38_next_38 : decode cJ38_next 38 = .ok (.aload_n 0, 1) := dk_42 (dk_at dksJ38_next_1 14 rfl rfl)
theorem dJ38_next_39 : decode cJ38_next 39 = .ok (.dup, 1) := dk_89 (dk_at dksJ38_next_1 15 rfl rfl)
theorem dJ38_next_40 : decode cJ38_next 40 = .ok (.getfield 33, 3) := dk_180 0 33 (dk_at dksJ38_next_1 16 rfl rfl)
theorem dJ38_next_43 : decode cJ38_next 43 = .ok (.iconst 1, 1) := dk_4 (dk_at dksJ38_next_1 19 rfl rfl)
theorem dJ38_next_44 : decode cJ38_next 44 = .ok (.iadd, 1) := dk_96 (dk_at dksJ38_next_1 20 rfl rfl)
theorem dJ38_next_45 : decode cJ38_next 45 = .ok (.putfield 33, 3) := dk_181 0 33 (dk_at dksJ38_next_1 21 rfl rfl)
theorem dJ38_next_48 : decode cJ38_next 48 = .ok (.aload_n 0, 1) := dk_42 (dk_at dksJ38_next_2 0 rfl rfl)
theorem dJ38_next_49 : decode cJ38_next 49 = .ok (.getfield 46, 3) := dk_180 0 46 (dk_at dksJ38_next_2 1 rfl rfl)
theorem dJ38_next_52 : decode cJ38_next 52 = .ok (.getfield 52, 3) := dk_180 0 52 (dk_at dksJ38_next_2 4 rfl rfl)
theorem dJ38_next_55 : decode cJ38_next 55 = .ok (.areturn, 1) := dk_176 (dk_at dksJ38_next_2 7 rfl rfl)
abbrev cJ38_checkForComodification : ByteArray := prog_65_method_12_code
def yJ38_checkForComodification : MethodName := ⟨RJ38, "checkForComodification", "()V"⟩
def dkwJ38_checkForComodification_0 : List UInt8 := [42, 180, 0, 1, 180, 0, 13, 42, 180, 0, 19, 159, 0, 11, 187, 0, 91, 89, 183, 0, 93, 191, 177]
abbrev dktJ38_checkForComodification_0 : List UInt8 := dkwJ38_checkForComodification_0 ++ []
theorem dksJ38_checkForComodification_0 : cJ38_checkForComodification.data.toList.drop 0 = dktJ38_checkForComodification_0 := by decide +kernel
theorem dJ38_checkForComodification_0 : decode cJ38_checkForComodification 0 = .ok (.aload_n 0, 1) := dk_42 (dk_at dksJ38_checkForComodification_0 0 rfl rfl)
theorem dJ38_checkForComodification_1 : decode cJ38_checkForComodification 1 = .ok (.getfield 1, 3) := dk_180 0 1 (dk_at dksJ38_checkForComodification_0 1 rfl rfl)
theorem dJ38_checkForComodification_4 : decode cJ38_checkForComodification 4 = .ok (.getfield 13, 3) := dk_180 0 13 (dk_at dksJ38_checkForComodification_0 4 rfl rfl)
theorem dJ38_checkForComodification_7 : decode cJ38_checkForComodification 7 = .ok (.aload_n 0, 1) := dk_42 (dk_at dksJ38_checkForComodification_0 7 rfl rfl)
theorem dJ38_checkForComodification_8 : decode cJ38_checkForComodification 8 = .ok (.getfield 19, 3) := dk_180 0 19 (dk_at dksJ38_checkForComodification_0 8 rfl rfl)
theorem dJ38_checkForComodification_11 : decode cJ38_checkForComodification 11 = .ok (.if_icmp .eq 11, 3) := dk_159 0 11 (dk_at dksJ38_checkForComodification_0 11 rfl rfl)
theorem dJ38_checkForComodification_14 : decode cJ38_checkForComodification 14 = .ok (.new 91, 3) := dk_187 0 91 (dk_at dksJ38_checkForComodification_0 14 rfl rfl)
theorem dJ38_checkForComodification_17 : decode cJ38_checkForComodification 17 = .ok (.dup, 1) := dk_89 (dk_at dksJ38_checkForComodification_0 17 rfl rfl)
theorem dJ38_checkForComodification_18 : decode cJ38_checkForComodification 18 = .ok (.invokespecial 93, 3) := dk_183 0 93 (dk_at dksJ38_checkForComodification_0 18 rfl rfl)
theorem dJ38_checkForComodification_21 : decode cJ38_checkForComodification 21 = .ok (.athrow, 1) := dk_191 (dk_at dksJ38_checkForComodification_0 21 rfl rfl)
theorem dJ38_checkForComodification_22 : decode cJ38_checkForComodification 22 = .ok (.return_, 1) := dk_177 (dk_at dksJ38_checkForComodification_0 22 rfl rfl)
abbrev cJ38_hasNext : ByteArray := prog_65_method_2_code
def yJ38_hasNext : MethodName := ⟨RJ38, "hasNext", "()Z"⟩
def dkwJ38_hasNext_0 : List UInt8 := [42, 180, 0, 33, 42, 180, 0, 1, 180, 0, 22, 162, 0, 7, 4, 167, 0, 4, 3, 172]
abbrev dktJ38_hasNext_0 : List UInt8 := dkwJ38_hasNext_0 ++ []
theorem dksJ38_hasNext_0 : cJ38_hasNext.data.toList.drop 0 = dktJ38_hasNext_0 := by decide +kernel
theorem dJ38_hasNext_0 : decode cJ38_hasNext 0 = .ok (.aload_n 0, 1) := dk_42 (dk_at dksJ38_hasNext_0 0 rfl rfl)
theorem dJ38_hasNext_1 : decode cJ38_hasNext 1 = .ok (.getfield 33, 3) := dk_180 0 33 (dk_at dksJ38_hasNext_0 1 rfl rfl)
theorem dJ38_hasNext_4 : decode cJ38_hasNext 4 = .ok (.aload_n 0, 1) := dk_42 (dk_at dksJ38_hasNext_0 4 rfl rfl)
theorem dJ38_hasNext_5 : decode cJ38_hasNext 5 = .ok (.getfield 1, 3) := dk_180 0 1 (dk_at dksJ38_hasNext_0 5 rfl rfl)
theorem dJ38_hasNext_8 : decode cJ38_hasNext 8 = .ok (.getfield 22, 3) := dk_180 0 22 (dk_at dksJ38_hasNext_0 8 rfl rfl)
theorem dJ38_hasNext_11 : decode cJ38_hasNext 11 = .ok (.if_icmp .ge 7, 3) := dk_162 0 7 (dk_at dksJ38_hasNext_0 11 rfl rfl)
theorem dJ38_hasNext_14 : decode cJ38_hasNext 14 = .ok (.iconst 1, 1) := dk_4 (dk_at dksJ38_hasNext_0 14 rfl rfl)
theorem dJ38_hasNext_15 : decode cJ38_hasNext 15 = .ok (.goto 4, 3) := dk_167 0 4 (dk_at dksJ38_hasNext_0 15 rfl rfl)
theorem dJ38_hasNext_18 : decode cJ38_hasNext 18 = .ok (.iconst 0, 1) := dk_3 (dk_at dksJ38_hasNext_0 18 rfl rfl)
theorem dJ38_hasNext_19 : decode cJ38_hasNext 19 = .ok (.ireturn, 1) := dk_172 (dk_at dksJ38_hasNext_0 19 rfl rfl)
abbrev cJ38_init : ByteArray := prog_65_method_1_code
def yJ38_init : MethodName := ⟨RJ38, "<init>", "(Ljava/util/LinkedList;I)V"⟩
def dkwJ38_init_1 : List UInt8 := [180, 0, 22, 160, 0, 7, 1, 167, 0, 8, 43, 28, 182, 0, 25, 181, 0, 29, 42, 28, 181, 0, 33, 177]
abbrev dktJ38_init_1 : List UInt8 := dkwJ38_init_1 ++ []
def dkwJ38_init_0 : List UInt8 := [42, 43, 181, 0, 1, 42, 183, 0, 7, 42, 42, 180, 0, 1, 180, 0, 13, 181, 0, 19, 42, 28, 43]
abbrev dktJ38_init_0 : List UInt8 := dkwJ38_init_0 ++ dktJ38_init_1
theorem dksJ38_init_0 : cJ38_init.data.toList.drop 0 = dktJ38_init_0 := by decide +kernel
theorem dksJ38_init_1 : cJ38_init.data.toList.drop 23 = dktJ38_init_1 := dk_seg dksJ38_init_0 23 rfl rfl
theorem dJ38_init_0 : decode cJ38_init 0 = .ok (.aload_n 0, 1) := dk_42 (dk_at dksJ38_init_0 0 rfl rfl)
theorem dJ38_init_1 : decode cJ38_init 1 = .ok (.aload_n 1, 1) := dk_43 (dk_at dksJ38_init_0 1 rfl rfl)
theorem dJ38_init_2 : decode cJ38_init 2 = .ok (.putfield 1, 3) := dk_181 0 1 (dk_at dksJ38_init_0 2 rfl rfl)
theorem dJ38_init_5 : decode cJ38_init 5 = .ok (.aload_n 0, 1) := dk_42 (dk_at dksJ38_init_0 5 rfl rfl)
theorem dJ38_init_6 : decode cJ38_init 6 = .ok (.invokespecial 7, 3) := dk_183 0 7 (dk_at dksJ38_init_0 6 rfl rfl)
theorem dJ38_init_9 : decode cJ38_init 9 = .ok (.aload_n 0, 1) := dk_42 (dk_at dksJ38_init_0 9 rfl rfl)
theorem dJ38_init_10 : decode cJ38_init 10 = .ok (.aload_n 0, 1) := dk_42 (dk_at dksJ38_init_0 10 rfl rfl)
theorem dJ38_init_11 : decode cJ38_init 11 = .ok (.getfield 1, 3) := dk_180 0 1 (dk_at dksJ38_init_0 11 rfl rfl)
theorem dJ38_init_14 : decode cJ38_init 14 = .ok (.getfield 13, 3) := dk_180 0 13 (dk_at dksJ38_init_0 14 rfl rfl)
theorem dJ38_init_17 : decode cJ38_init 17 = .ok (.putfield 19, 3) := dk_181 0 19 (dk_at dksJ38_init_0 17 rfl rfl)
theorem dJ38_init_20 : decode cJ38_init 20 = .ok (.aload_n 0, 1) := dk_42 (dk_at dksJ38_init_0 20 rfl rfl)
theorem dJ38_init_21 : decode cJ38_init 21 = .ok (.iload_n 2, 1) := dk_28 (dk_at dksJ38_init_0 21 rfl rfl)
theorem dJ38_init_22 : decode cJ38_init 22 = .ok (.aload_n 1, 1) := dk_43 (dk_at dksJ38_init_0 22 rfl rfl)
theorem dJ38_init_23 : decode cJ38_init 23 = .ok (.getfield 22, 3) := dk_180 0 22 (dk_at dksJ38_init_1 0 rfl rfl)
theorem dJ38_init_26 : decode cJ38_init 26 = .ok (.if_icmp .ne 7, 3) := dk_160 0 7 (dk_at dksJ38_init_1 3 rfl rfl)
theorem dJ38_init_29 : decode cJ38_init 29 = .ok (.aconst_null, 1) := dk_1 (dk_at dksJ38_init_1 6 rfl rfl)
theorem dJ38_init_30 : decode cJ38_init 30 = .ok (.goto 8, 3) := dk_167 0 8 (dk_at dksJ38_init_1 7 rfl rfl)
theorem dJ38_init_33 : decode cJ38_init 33 = .ok (.aload_n 1, 1) := dk_43 (dk_at dksJ38_init_1 10 rfl rfl)
theorem dJ38_init_34 : decode cJ38_init 34 = .ok (.iload_n 2, 1) := dk_28 (dk_at dksJ38_init_1 11 rfl rfl)
theorem dJ38_init_35 : decode cJ38_init 35 = .ok (.invokevirtual 25, 3) := dk_182 0 25 (dk_at dksJ38_init_1 12 rfl rfl)
theorem dJ38_init_38 : decode cJ38_init 38 = .ok (.putfield 29, 3) := dk_181 0 29 (dk_at dksJ38_init_1 15 rfl rfl)
theorem dJ38_init_41 : decode cJ38_init 41 = .ok (.aload_n 0, 1) := dk_42 (dk_at dksJ38_init_1 18 rfl rfl)
theorem dJ38_init_42 : decode cJ38_init 42 = .ok (.iload_n 2, 1) := dk_28 (dk_at dksJ38_init_1 19 rfl rfl)
theorem dJ38_init_43 : decode cJ38_init 43 = .ok (.putfield 33, 3) := dk_181 0 33 (dk_at dksJ38_init_1 20 rfl rfl)
theorem dJ38_init_46 : decode cJ38_init 46 = .ok (.return_, 1) := dk_177 (dk_at dksJ38_init_1 23 rfl rfl)
abbrev cJ39_next : ByteArray := prog_55_method_3_code
def yJ39_next : MethodName := ⟨RJ39, "next", "()Ljava/lang/Object;"⟩
def dkwJ39_next_2 : List UInt8 := [181, 0, 29, 42, 89, 180, 0, 19, 4, 100, 181, 0, 19, 44, 176]
abbrev dktJ39_next_2 : List UInt8 := dkwJ39_next_2 ++ []
def dkwJ39_next_1 : List UInt8 := [42, 180, 0, 29, 184, 0, 39, 77, 42, 42, 42, 180, 0, 29, 90, 181, 0, 23, 43, 190, 184, 0, 43]
abbrev dktJ39_next_1 : List UInt8 := dkwJ39_next_1 ++ dktJ39_next_2
def dkwJ39_next_0 : List UInt8 := [42, 180, 0, 19, 157, 0, 11, 187, 0, 32, 89, 183, 0, 34, 191, 42, 180, 0, 1, 180, 0, 35, 76, 43]
abbrev dktJ39_next_0 : List UInt8 := dkwJ39_next_0 ++ dktJ39_next_1
theorem dksJ39_next_0 : cJ39_next.data.toList.drop 0 = dktJ39_next_0 := by decide +kernel
theorem dksJ39_next_1 : cJ39_next.data.toList.drop 24 = dktJ39_next_1 := dk_seg dksJ39_next_0 24 rfl rfl
theorem dksJ39_next_2 : cJ39_next.data.toList.drop 47 = dktJ39_next_2 := dk_seg dksJ39_next_1 23 rfl rfl
theorem dJ39_next_0 : decode cJ39_next 0 = .ok (.aload_n 0, 1) := dk_42 (dk_at dksJ39_next_0 0 rfl rfl)
theorem dJ39_next_1 : decode cJ39_next 1 = .ok (.getfield 19, 3) := dk_180 0 19 (dk_at dksJ39_next_0 1 rfl rfl)
theorem dJ39_next_4 : decode cJ39_next 4 = .ok (.ifCond .gt 11, 3) := dk_157 0 11 (dk_at dksJ39_next_0 4 rfl rfl)
theorem dJ39_next_7 : decode cJ39_next 7 = .ok (.new 32, 3) := dk_187 0 32 (dk_at dksJ39_next_0 7 rfl rfl)
theorem dJ39_next_10 : decode cJ39_next 10 = .ok (.dup, 1) := dk_89 (dk_at dksJ39_next_0 10 rfl rfl)
theorem dJ39_next_11 : decode cJ39_next 11 = .ok (.invokespecial 34, 3) := dk_183 0 34 (dk_at dksJ39_next_0 11 rfl rfl)
theorem dJ39_next_14 : decode cJ39_next 14 = .ok (.athrow, 1) := dk_191 (dk_at dksJ39_next_0 14 rfl rfl)
theorem dJ39_next_15 : decode cJ39_next 15 = .ok (.aload_n 0, 1) := dk_42 (dk_at dksJ39_next_0 15 rfl rfl)
theorem dJ39_next_16 : decode cJ39_next 16 = .ok (.getfield 1, 3) := dk_180 0 1 (dk_at dksJ39_next_0 16 rfl rfl)
theorem dJ39_next_19 : decode cJ39_next 19 = .ok (.getfield 35, 3) := dk_180 0 35 (dk_at dksJ39_next_0 19 rfl rfl)
theorem dJ39_next_22 : decode cJ39_next 22 = .ok (.astore_n 1, 1) := dk_76 (dk_at dksJ39_next_0 22 rfl rfl)
theorem dJ39_next_23 : decode cJ39_next 23 = .ok (.aload_n 1, 1) := dk_43 (dk_at dksJ39_next_0 23 rfl rfl)
theorem dJ39_next_24 : decode cJ39_next 24 = .ok (.aload_n 0, 1) := dk_42 (dk_at dksJ39_next_1 0 rfl rfl)
theorem dJ39_next_25 : decode cJ39_next 25 = .ok (.getfield 29, 3) := dk_180 0 29 (dk_at dksJ39_next_1 1 rfl rfl)
theorem dJ39_next_28 : decode cJ39_next 28 = .ok (.invokestatic 39, 3) := dk_184 0 39 (dk_at dksJ39_next_1 4 rfl rfl)
theorem dJ39_next_31 : decode cJ39_next 31 = .ok (.astore_n 2, 1) := dk_77 (dk_at dksJ39_next_1 7 rfl rfl)
theorem dJ39_next_32 : decode cJ39_next 32 = .ok (.aload_n 0, 1) := dk_42 (dk_at dksJ39_next_1 8 rfl rfl)
theorem dJ39_next_33 : decode cJ39_next 33 = .ok (.aload_n 0, 1) := dk_42 (dk_at dksJ39_next_1 9 rfl rfl)
theorem dJ39_next_34 : decode cJ39_next 34 = .ok (.aload_n 0, 1) := dk_42 (dk_at dksJ39_next_1 10 rfl rfl)
theorem dJ39_next_35 : decode cJ39_next 35 = .ok (.getfield 29, 3) := dk_180 0 29 (dk_at dksJ39_next_1 11 rfl rfl)
theorem dJ39_next_38 : decode cJ39_next 38 = .ok (.dup_x1, 1) := dk_90 (dk_at dksJ39_next_1 14 rfl rfl)
theorem dJ39_next_39 : decode cJ39_next 39 = .ok (.putfield 23, 3) := dk_181 0 23 (dk_at dksJ39_next_1 15 rfl rfl)
theorem dJ39_next_42 : decode cJ39_next 42 = .ok (.aload_n 1, 1) := dk_43 (dk_at dksJ39_next_1 18 rfl rfl)
theorem dJ39_next_43 : decode cJ39_next 43 = .ok (.arraylength, 1) := dk_190 (dk_at dksJ39_next_1 19 rfl rfl)
theorem dJ39_next_44 : decode cJ39_next 44 = .ok (.invokestatic 43, 3) := dk_184 0 43 (dk_at dksJ39_next_1 20 rfl rfl)
theorem dJ39_next_47 : decode cJ39_next 47 = .ok (.putfield 29, 3) := dk_181 0 29 (dk_at dksJ39_next_2 0 rfl rfl)
theorem dJ39_next_50 : decode cJ39_next 50 = .ok (.aload_n 0, 1) := dk_42 (dk_at dksJ39_next_2 3 rfl rfl)
theorem dJ39_next_51 : decode cJ39_next 51 = .ok (.dup, 1) := dk_89 (dk_at dksJ39_next_2 4 rfl rfl)
theorem dJ39_next_52 : decode cJ39_next 52 = .ok (.getfield 19, 3) := dk_180 0 19 (dk_at dksJ39_next_2 5 rfl rfl)
theorem dJ39_next_55 : decode cJ39_next 55 = .ok (.iconst 1, 1) := dk_4 (dk_at dksJ39_next_2 8 rfl rfl)
theorem dJ39_next_56 : decode cJ39_next 56 = .ok (.isub, 1) := dk_100 (dk_at dksJ39_next_2 9 rfl rfl)
theorem dJ39_next_57 : decode cJ39_next 57 = .ok (.putfield 19, 3) := dk_181 0 19 (dk_at dksJ39_next_2 10 rfl rfl)
theorem dJ39_next_60 : decode cJ39_next 60 = .ok (.aload_n 2, 1) := dk_44 (dk_at dksJ39_next_2 13 rfl rfl)
theorem dJ39_next_61 : decode cJ39_next 61 = .ok (.areturn, 1) := dk_176 (dk_at dksJ39_next_2 14 rfl rfl)
abbrev cJ39_hasNext : ByteArray := prog_55_method_2_code
def yJ39_hasNext : MethodName := ⟨RJ39, "hasNext", "()Z"⟩
def dkwJ39_hasNext_0 : List UInt8 := [42, 180, 0, 19, 158, 0, 7, 4, 167, 0, 4, 3, 172]
abbrev dktJ39_hasNext_0 : List UInt8 := dkwJ39_hasNext_0 ++ []
theorem dksJ39_hasNext_0 : cJ39_hasNext.data.toList.drop 0 = dktJ39_hasNext_0 := by decide +kernel
theorem dJ39_hasNext_0 : decode cJ39_hasNext 0 = .ok (.aload_n 0, 1) := dk_42 (dk_at dksJ39_hasNext_0 0 rfl rfl)
theorem dJ39_hasNext_1 : decode cJ39_hasNext 1 = .ok (.getfield 19, 3) := dk_180 0 19 (dk_at dksJ39_hasNext_0 1 rfl rfl)
theorem dJ39_hasNext_4 : decode cJ39_hasNext 4 = .ok (.ifCond .le 7, 3) := dk_158 0 7 (dk_at dksJ39_hasNext_0 4 rfl rfl)
theorem dJ39_hasNext_7 : decode cJ39_hasNext 7 = .ok (.iconst 1, 1) := dk_4 (dk_at dksJ39_hasNext_0 7 rfl rfl)
theorem dJ39_hasNext_8 : decode cJ39_hasNext 8 = .ok (.goto 4, 3) := dk_167 0 4 (dk_at dksJ39_hasNext_0 8 rfl rfl)
theorem dJ39_hasNext_11 : decode cJ39_hasNext 11 = .ok (.iconst 0, 1) := dk_3 (dk_at dksJ39_hasNext_0 11 rfl rfl)
theorem dJ39_hasNext_12 : decode cJ39_hasNext 12 = .ok (.ireturn, 1) := dk_172 (dk_at dksJ39_hasNext_0 12 rfl rfl)
abbrev cJ39_init : ByteArray := prog_55_method_1_code
def yJ39_init : MethodName := ⟨RJ39, "<init>", "(Ljava/util/ArrayDeque;)V"⟩
def dkwJ39_init_1 : List UInt8 := [181, 0, 23, 42, 43, 180, 0, 26, 181, 0, 29, 177]
abbrev dktJ39_init_1 : List UInt8 := dkwJ39_init_1 ++ []
def dkwJ39_init_0 : List UInt8 := [42, 43, 181, 0, 1, 42, 183, 0, 7, 42, 42, 180, 0, 1, 182, 0, 13, 181, 0, 19, 42, 2]
abbrev dktJ39_init_0 : List UInt8 := dkwJ39_init_0 ++ dktJ39_init_1
theorem dksJ39_init_0 : cJ39_init.data.toList.drop 0 = dktJ39_init_0 := by decide +kernel
theorem dksJ39_init_1 : cJ39_init.data.toList.drop 22 = dktJ39_init_1 := dk_seg dksJ39_init_0 22 rfl rfl
theorem dJ39_init_0 : decode cJ39_init 0 = .ok (.aload_n 0, 1) := dk_42 (dk_at dksJ39_init_0 0 rfl rfl)
theorem dJ39_init_1 : decode cJ39_init 1 = .ok (.aload_n 1, 1) := dk_43 (dk_at dksJ39_init_0 1 rfl rfl)
theorem dJ39_init_2 : decode cJ39_init 2 = .ok (.putfield 1, 3) := dk_181 0 1 (dk_at dksJ39_init_0 2 rfl rfl)
theorem dJ39_init_5 : decode cJ39_init 5 = .ok (.aload_n 0, 1) := dk_42 (dk_at dksJ39_init_0 5 rfl rfl)
theorem dJ39_init_6 : decode cJ39_init 6 = .ok (.invokespecial 7, 3) := dk_183 0 7 (dk_at dksJ39_init_0 6 rfl rfl)
theorem dJ39_init_9 : decode cJ39_init 9 = .ok (.aload_n 0, 1) := dk_42 (dk_at dksJ39_init_0 9 rfl rfl)
theorem dJ39_init_10 : decode cJ39_init 10 = .ok (.aload_n 0, 1) := dk_42 (dk_at dksJ39_init_0 10 rfl rfl)
theorem dJ39_init_11 : decode cJ39_init 11 = .ok (.getfield 1, 3) := dk_180 0 1 (dk_at dksJ39_init_0 11 rfl rfl)
theorem dJ39_init_14 : decode cJ39_init 14 = .ok (.invokevirtual 13, 3) := dk_182 0 13 (dk_at dksJ39_init_0 14 rfl rfl)
theorem dJ39_init_17 : decode cJ39_init 17 = .ok (.putfield 19, 3) := dk_181 0 19 (dk_at dksJ39_init_0 17 rfl rfl)
theorem dJ39_init_20 : decode cJ39_init 20 = .ok (.aload_n 0, 1) := dk_42 (dk_at dksJ39_init_0 20 rfl rfl)
theorem dJ39_init_21 : decode cJ39_init 21 = .ok (.iconst (-1), 1) := dk_2 (dk_at dksJ39_init_0 21 rfl rfl)
theorem dJ39_init_22 : decode cJ39_init 22 = .ok (.putfield 23, 3) := dk_181 0 23 (dk_at dksJ39_init_1 0 rfl rfl)
theorem dJ39_init_25 : decode cJ39_init 25 = .ok (.aload_n 0, 1) := dk_42 (dk_at dksJ39_init_1 3 rfl rfl)
theorem dJ39_init_26 : decode cJ39_init 26 = .ok (.aload_n 1, 1) := dk_43 (dk_at dksJ39_init_1 4 rfl rfl)
theorem dJ39_init_27 : decode cJ39_init 27 = .ok (.getfield 26, 3) := dk_180 0 26 (dk_at dksJ39_init_1 5 rfl rfl)
theorem dJ39_init_30 : decode cJ39_init 30 = .ok (.putfield 29, 3) := dk_181 0 29 (dk_at dksJ39_init_1 8 rfl rfl)
theorem dJ39_init_33 : decode cJ39_init 33 = .ok (.return_, 1) := dk_177 (dk_at dksJ39_init_1 11 rfl rfl)
abbrev cJ40_next : ByteArray := prog_75_method_3_code
def yJ40_next : MethodName := ⟨RJ40, "next", "()Ljava/lang/Object;"⟩
def dkwJ40_next_4 : List UInt8 := [180, 0, 52, 176, 187, 0, 56, 89, 183, 0, 58, 191]
abbrev dktJ40_next_4 : List UInt8 := dkwJ40_next_4 ++ []
def dkwJ40_next_3 : List UInt8 := [181, 0, 13, 42, 42, 180, 0, 31, 182, 0, 48, 181, 0, 52, 42, 180, 0, 52, 198, 0, 8, 42]
abbrev dktJ40_next_3 : List UInt8 := dkwJ40_next_3 ++ dktJ40_next_4
def dkwJ40_next_2 : List UInt8 := [180, 0, 25, 90, 4, 96, 181, 0, 25, 90, 181, 0, 13, 50, 176, 42, 180, 0, 31, 198, 0, 31, 42, 2]
abbrev dktJ40_next_2 : List UInt8 := dkwJ40_next_2 ++ dktJ40_next_3
def dkwJ40_next_1 : List UInt8 := [180, 0, 25, 42, 180, 0, 1, 180, 0, 28, 162, 0, 28, 42, 180, 0, 1, 180, 0, 44, 42, 42, 89]
abbrev dktJ40_next_1 : List UInt8 := dkwJ40_next_1 ++ dktJ40_next_2
def dkwJ40_next_0 : List UInt8 := [42, 180, 0, 22, 42, 180, 0, 1, 180, 0, 17, 159, 0, 11, 187, 0, 41, 89, 183, 0, 43, 191, 42]
abbrev dktJ40_next_0 : List UInt8 := dkwJ40_next_0 ++ dktJ40_next_1
theorem dksJ40_next_0 : cJ40_next.data.toList.drop 0 = dktJ40_next_0 := by decide +kernel
theorem dksJ40_next_1 : cJ40_next.data.toList.drop 23 = dktJ40_next_1 := dk_seg dksJ40_next_0 23 rfl rfl
theorem dksJ40_next_2 : cJ40_next.data.toList.drop 46 = dktJ40_next_2 := dk_seg dksJ40_next_1 23 rfl rfl
theorem dksJ40_next_3 : cJ40_next.data.toList.drop 70 = dktJ40_next_3 := dk_seg dksJ40_next_2 24 rfl rfl
theorem dksJ40_next_4 : cJ40_next.data.toList.drop 92 = dktJ40_next_4 := dk_seg dksJ40_next_3 22 rfl rfl
theorem dJ40_next_0 : decode cJ40_next 0 = .ok (.aload_n 0, 1) := dk_42 (dk_at dksJ40_next_0 0 rfl rfl)
theorem dJ40_next_1 : decode cJ40_next 1 = .ok (.getfield 22, 3) := dk_180 0 22 (dk_at dksJ40_next_0 1 rfl rfl)
theorem dJ40_next_4 : decode cJ40_next 4 = .ok (.aload_n 0, 1) := dk_42 (dk_at dksJ40_next_0 4 rfl rfl)
theorem dJ40_next_5 : decode cJ40_next 5 = .ok (.getfield 1, 3) := dk_180 0 1 (dk_at dksJ40_next_0 5 rfl rfl)
theorem dJ40_next_8 : decode cJ40_next 8 = .ok (.getfield 17, 3) := dk_180 0 17 (dk_at dksJ40_next_0 8 rfl rfl)
theorem dJ40_next_11 : decode cJ40_next 11 = .ok (.if_icmp .eq 11, 3) := dk_159 0 11 (dk_at dksJ40_next_0 11 rfl rfl)
theorem dJ40_next_14 : decode cJ40_next 14 = .ok (.new 41, 3) := dk_187 0 41 (dk_at dksJ40_next_0 14 rfl rfl)
theorem dJ40_next_17 : decode cJ40_next 17 = .ok (.dup, 1) := dk_89 (dk_at dksJ40_next_0 17 rfl rfl)
theorem dJ40_next_18 : decode cJ40_next 18 = .ok (.invokespecial 43, 3) := dk_183 0 43 (dk_at dksJ40_next_0 18 rfl rfl)
theorem dJ40_next_21 : decode cJ40_next 21 = .ok (.athrow, 1) := dk_191 (dk_at dksJ40_next_0 21 rfl rfl)
theorem dJ40_next_22 : decode cJ40_next 22 = .ok (.aload_n 0, 1) := dk_42 (dk_at dksJ40_next_0 22 rfl rfl)
theorem dJ40_next_23 : decode cJ40_next 23 = .ok (.getfield 25, 3) := dk_180 0 25 (dk_at dksJ40_next_1 0 rfl rfl)
theorem dJ40_next_26 : decode cJ40_next 26 = .ok (.aload_n 0, 1) := dk_42 (dk_at dksJ40_next_1 3 rfl rfl)
theorem dJ40_next_27 : decode cJ40_next 27 = .ok (.getfield 1, 3) := dk_180 0 1 (dk_at dksJ40_next_1 4 rfl rfl)
theorem dJ40_next_30 : decode cJ40_next 30 = .ok (.getfield 28, 3) := dk_180 0 28 (dk_at dksJ40_next_1 7 rfl rfl)
theorem dJ40_next_33 : decode cJ40_next 33 = .ok (.if_icmp .ge 28, 3) := dk_162 0 28 (dk_at dksJ40_next_1 10 rfl rfl)
theorem dJ40_next_36 : decode cJ40_next 36 = .ok (.aload_n 0, 1) := dk_42 (dk_at dksJ40_next_1 13 rfl rfl)
theorem dJ40_next_37 : decode cJ40_next 37 = .ok (.getfield 1, 3) := dk_180 0 1 (dk_at dksJ40_next_1 14 rfl rfl)
theorem dJ40_next_40 : decode cJ40_next 40 = .ok (.getfield 44, 3) := dk_180 0 44 (dk_at dksJ40_next_1 17 rfl rfl)
theorem dJ40_next_43 : decode cJ40_next 43 = .ok (.aload_n 0, 1) := dk_42 (dk_at dksJ40_next_1 20 rfl rfl)
theorem dJ40_next_44 : decode cJ40_next 44 = .ok (.aload_n 0, 1) := dk_42 (dk_at dksJ40_next_1 21 rfl rfl)
theorem dJ40_next_45 : decode cJ40_next 45 = .ok (.dup, 1) := dk_89 (dk_at dksJ40_next_1 22 rfl rfl)
theorem dJ40_next_46 : decode cJ40_next 46 = .ok (.getfield 25, 3) := dk_180 0 25 (dk_at dksJ40_next_2 0 rfl rfl)
theorem dJ40_next_49 : decode cJ40_next 49 = .ok (.dup_x1, 1) := dk_90 (dk_at dksJ40_next_2 3 rfl rfl)
theorem dJ40_next_50 : decode cJ40_next 50 = .ok (.iconst 1, 1) := dk_4 (dk_at dksJ40_next_2 4 rfl rfl)
theorem dJ40_next_51 : decode cJ40_next 51 = .ok (.iadd, 1) := dk_96 (dk_at dksJ40_next_2 5 rfl rfl)
theorem dJ40_next_52 : decode cJ40_next 52 = .ok (.putfield 25, 3) := dk_181 0 25 (dk_at dksJ40_next_2 6 rfl rfl)
theorem dJ40_next_55 : decode cJ40_next 55 = .ok (.dup_x1, 1) := dk_90 (dk_at dksJ40_next_2 9 rfl rfl)
theorem dJ40_next_56 : decode cJ40_next 56 = .ok (.putfield 13, 3) := dk_181 0 13 (dk_at dksJ40_next_2 10 rfl rfl)
theorem dJ40_next_59 : decode cJ40_next 59 = .ok (.aaload, 1) := dk_50 (dk_at dksJ40_next_2 13 rfl rfl)
theorem dJ40_next_60 : decode cJ40_next 60 = .ok (.areturn, 1) := dk_176 (dk_at dksJ40_next_2 14 rfl rfl)
theorem dJ40_next_61 : decode cJ40_next 61 = .ok (.aload_n 0, 1) := dk_42 (dk_at dksJ40_next_2 15 rfl rfl)
theorem dJ40_next_62 : decode cJ40_next 62 = .ok (.getfield 31, 3) := dk_180 0 31 (dk_at dksJ40_next_2 16 rfl rfl)
theorem dJ40_next_65 : decode cJ40_next 65 = .ok (.ifnull 31, 3) := dk_198 0 31 (dk_at dksJ40_next_2 19 rfl rfl)
theorem dJ40_next_68 : decode cJ40_next 68 = .ok (.aload_n 0, 1) := dk_42 (dk_at dksJ40_next_2 22 rfl rfl)
theorem dJ40_next_69 : decode cJ40_next 69 = .ok (.iconst (-1), 1) := dk_2 (dk_at dksJ40_next_2 23 rfl rfl)
theorem dJ40_next_70 : decode cJ40_next 70 = .ok (.putfield 13, 3) := dk_181 0 13 (dk_at dksJ40_next_3 0 rfl rfl)
theorem dJ40_next_73 : decode cJ40_next 73 = .ok (.aload_n 0, 1) := dk_42 (dk_at dksJ40_next_3 3 rfl rfl)
theorem dJ40_next_74 : decode cJ40_next 74 = .ok (.aload_n 0, 1) := dk_42 (dk_at dksJ40_next_3 4 rfl rfl)
theorem dJ40_next_75 : decode cJ40_next 75 = .ok (.getfield 31, 3) := dk_180 0 31 (dk_at dksJ40_next_3 5 rfl rfl)
theorem dJ40_next_78 : decode cJ40_next 78 = .ok (.invokevirtual 48, 3) := dk_182 0 48 (dk_at dksJ40_next_3 8 rfl rfl)
theorem dJ40_next_81 : decode cJ40_next 81 = .ok (.putfield 52, 3) := dk_181 0 52 (dk_at dksJ40_next_3 11 rfl rfl)
theorem dJ40_next_84 : decode cJ40_next 84 = .ok (.aload_n 0, 1) := dk_42 (dk_at dksJ40_next_3 14 rfl rfl)
theorem dJ40_next_85 : decode cJ40_next 85 = .ok (.getfield 52, 3) := dk_180 0 52 (dk_at dksJ40_next_3 15 rfl rfl)
theorem dJ40_next_88 : decode cJ40_next 88 = .ok (.ifnull 8, 3) := dk_198 0 8 (dk_at dksJ40_next_3 18 rfl rfl)
theorem dJ40_next_91 : decode cJ40_next 91 = .ok (.aload_n 0, 1) := dk_42 (dk_at dksJ40_next_3 21 rfl rfl)
theorem dJ40_next_92 : decode cJ40_next 92 = .ok (.getfield 52, 3) := dk_180 0 52 (dk_at dksJ40_next_4 0 rfl rfl)
theorem dJ40_next_95 : decode cJ40_next 95 = .ok (.areturn, 1) := dk_176 (dk_at dksJ40_next_4 3 rfl rfl)
theorem dJ40_next_96 : decode cJ40_next 96 = .ok (.new 56, 3) := dk_187 0 56 (dk_at dksJ40_next_4 4 rfl rfl)
theorem dJ40_next_99 : decode cJ40_next 99 = .ok (.dup, 1) := dk_89 (dk_at dksJ40_next_4 7 rfl rfl)
theorem dJ40_next_100 : decode cJ40_next 100 = .ok (.invokespecial 58, 3) := dk_183 0 58 (dk_at dksJ40_next_4 8 rfl rfl)
theorem dJ40_next_103 : decode cJ40_next 103 = .ok (.athrow, 1) := dk_191 (dk_at dksJ40_next_4 11 rfl rfl)
abbrev cJ40_hasNext : ByteArray := prog_75_method_2_code
def yJ40_hasNext : MethodName := ⟨RJ40, "hasNext", "()Z"⟩
def dkwJ40_hasNext_1 : List UInt8 := [180, 0, 31, 182, 0, 35, 154, 0, 7, 4, 167, 0, 4, 3, 172]
abbrev dktJ40_hasNext_1 : List UInt8 := dkwJ40_hasNext_1 ++ []
def dkwJ40_hasNext_0 : List UInt8 := [42, 180, 0, 25, 42, 180, 0, 1, 180, 0, 28, 161, 0, 20, 42, 180, 0, 31, 198, 0, 17, 42]
abbrev dktJ40_hasNext_0 : List UInt8 := dkwJ40_hasNext_0 ++ dktJ40_hasNext_1
theorem dksJ40_hasNext_0 : cJ40_hasNext.data.toList.drop 0 = dktJ40_hasNext_0 := by decide +kernel
theorem dksJ40_hasNext_1 : cJ40_hasNext.data.toList.drop 22 = dktJ40_hasNext_1 := dk_seg dksJ40_hasNext_0 22 rfl rfl
theorem dJ40_hasNext_0 : decode cJ40_hasNext 0 = .ok (.aload_n 0, 1) := dk_42 (dk_at dksJ40_hasNext_0 0 rfl rfl)
theorem dJ40_hasNext_1 : decode cJ40_hasNext 1 = .ok (.getfield 25, 3) := dk_180 0 25 (dk_at dksJ40_hasNext_0 1 rfl rfl)
theorem dJ40_hasNext_4 : decode cJ40_hasNext 4 = .ok (.aload_n 0, 1) := dk_42 (dk_at dksJ40_hasNext_0 4 rfl rfl)
theorem dJ40_hasNext_5 : decode cJ40_hasNext 5 = .ok (.getfield 1, 3) := dk_180 0 1 (dk_at dksJ40_hasNext_0 5 rfl rfl)
theorem dJ40_hasNext_8 : decode cJ40_hasNext 8 = .ok (.getfield 28, 3) := dk_180 0 28 (dk_at dksJ40_hasNext_0 8 rfl rfl)
theorem dJ40_hasNext_11 : decode cJ40_hasNext 11 = .ok (.if_icmp .lt 20, 3) := dk_161 0 20 (dk_at dksJ40_hasNext_0 11 rfl rfl)
theorem dJ40_hasNext_14 : decode cJ40_hasNext 14 = .ok (.aload_n 0, 1) := dk_42 (dk_at dksJ40_hasNext_0 14 rfl rfl)
theorem dJ40_hasNext_15 : decode cJ40_hasNext 15 = .ok (.getfield 31, 3) := dk_180 0 31 (dk_at dksJ40_hasNext_0 15 rfl rfl)
theorem dJ40_hasNext_18 : decode cJ40_hasNext 18 = .ok (.ifnull 17, 3) := dk_198 0 17 (dk_at dksJ40_hasNext_0 18 rfl rfl)
theorem dJ40_hasNext_21 : decode cJ40_hasNext 21 = .ok (.aload_n 0, 1) := dk_42 (dk_at dksJ40_hasNext_0 21 rfl rfl)
theorem dJ40_hasNext_22 : decode cJ40_hasNext 22 = .ok (.getfield 31, 3) := dk_180 0 31 (dk_at dksJ40_hasNext_1 0 rfl rfl)
theorem dJ40_hasNext_25 : decode cJ40_hasNext 25 = .ok (.invokevirtual 35, 3) := dk_182 0 35 (dk_at dksJ40_hasNext_1 3 rfl rfl)
theorem dJ40_hasNext_28 : decode cJ40_hasNext 28 = .ok (.ifCond .ne 7, 3) := dk_154 0 7 (dk_at dksJ40_hasNext_1 6 rfl rfl)
theorem dJ40_hasNext_31 : decode cJ40_hasNext 31 = .ok (.iconst 1, 1) := dk_4 (dk_at dksJ40_hasNext_1 9 rfl rfl)
theorem dJ40_hasNext_32 : decode cJ40_hasNext 32 = .ok (.goto 4, 3) := dk_167 0 4 (dk_at dksJ40_hasNext_1 10 rfl rfl)
theorem dJ40_hasNext_35 : decode cJ40_hasNext 35 = .ok (.iconst 0, 1) := dk_3 (dk_at dksJ40_hasNext_1 13 rfl rfl)
theorem dJ40_hasNext_36 : decode cJ40_hasNext 36 = .ok (.ireturn, 1) := dk_172 (dk_at dksJ40_hasNext_1 14 rfl rfl)
abbrev cJ40_init : ByteArray := prog_75_method_1_code
def yJ40_init : MethodName := ⟨RJ40, "<init>", "(Ljava/util/PriorityQueue;)V"⟩
def dkwJ40_init_1 : List UInt8 := [181, 0, 22, 177]
abbrev dktJ40_init_1 : List UInt8 := dkwJ40_init_1 ++ []
def dkwJ40_init_0 : List UInt8 := [42, 43, 181, 0, 1, 42, 183, 0, 7, 42, 2, 181, 0, 13, 42, 42, 180, 0, 1, 180, 0, 17]
abbrev dktJ40_init_0 : List UInt8 := dkwJ40_init_0 ++ dktJ40_init_1
theorem dksJ40_init_0 : cJ40_init.data.toList.drop 0 = dktJ40_init_0 := by decide +kernel
theorem dksJ40_init_1 : cJ40_init.data.toList.drop 22 = dktJ40_init_1 := dk_seg dksJ40_init_0 22 rfl rfl
theorem dJ40_init_0 : decode cJ40_init 0 = .ok (.aload_n 0, 1) := dk_42 (dk_at dksJ40_init_0 0 rfl rfl)
theorem dJ40_init_1 : decode cJ40_init 1 = .ok (.aload_n 1, 1) := dk_43 (dk_at dksJ40_init_0 1 rfl rfl)
theorem dJ40_init_2 : decode cJ40_init 2 = .ok (.putfield 1, 3) := dk_181 0 1 (dk_at dksJ40_init_0 2 rfl rfl)
theorem dJ40_init_5 : decode cJ40_init 5 = .ok (.aload_n 0, 1) := dk_42 (dk_at dksJ40_init_0 5 rfl rfl)
theorem dJ40_init_6 : decode cJ40_init 6 = .ok (.invokespecial 7, 3) := dk_183 0 7 (dk_at dksJ40_init_0 6 rfl rfl)
theorem dJ40_init_9 : decode cJ40_init 9 = .ok (.aload_n 0, 1) := dk_42 (dk_at dksJ40_init_0 9 rfl rfl)
theorem dJ40_init_10 : decode cJ40_init 10 = .ok (.iconst (-1), 1) := dk_2 (dk_at dksJ40_init_0 10 rfl rfl)
theorem dJ40_init_11 : decode cJ40_init 11 = .ok (.putfield 13, 3) := dk_181 0 13 (dk_at dksJ40_init_0 11 rfl rfl)
theorem dJ40_init_14 : decode cJ40_init 14 = .ok (.aload_n 0, 1) := dk_42 (dk_at dksJ40_init_0 14 rfl rfl)
theorem dJ40_init_15 : decode cJ40_init 15 = .ok (.aload_n 0, 1) := dk_42 (dk_at dksJ40_init_0 15 rfl rfl)
theorem dJ40_init_16 : decode cJ40_init 16 = .ok (.getfield 1, 3) := dk_180 0 1 (dk_at dksJ40_init_0 16 rfl rfl)
theorem dJ40_init_19 : decode cJ40_init 19 = .ok (.getfield 17, 3) := dk_180 0 17 (dk_at dksJ40_init_0 19 rfl rfl)
theorem dJ40_init_22 : decode cJ40_init 22 = .ok (.putfield 22, 3) := dk_181 0 22 (dk_at dksJ40_init_1 0 rfl rfl)
theorem dJ40_init_25 : decode cJ40_init 25 = .ok (.return_, 1) := dk_177 (dk_at dksJ40_init_1 3 rfl rfl)
abbrev cJ41_init : ByteArray := prog_51_method_1_code
def yJ41_init : MethodName := ⟨RJ41, "<init>", "()V"⟩
theorem dJ41_init_0 : decode cJ41_init 0 = .ok (.aload_n 0, 1) := by decide +kernel
theorem dJ41_init_1 : decode cJ41_init 1 = .ok (.invokespecial 1, 3) := by decide +kernel
theorem dJ41_init_4 : decode cJ41_init 4 = .ok (.return_, 1) := by decide +kernel
abbrev cJ41_remove : ByteArray := prog_51_method_3_code
def yJ41_remove : MethodName := ⟨RJ41, "remove", "()Ljava/lang/Object;"⟩
def dkwJ41_remove_0 : List UInt8 := [42, 182, 0, 20, 76, 43, 198, 0, 5, 43, 176, 187, 0, 24, 89, 183, 0, 26, 191]
abbrev dktJ41_remove_0 : List UInt8 := dkwJ41_remove_0 ++ []
theorem dksJ41_remove_0 : cJ41_remove.data.toList.drop 0 = dktJ41_remove_0 := by decide +kernel
theorem dJ41_remove_0 : decode cJ41_remove 0 = .ok (.aload_n 0, 1) := dk_42 (dk_at dksJ41_remove_0 0 rfl rfl)
theorem dJ41_remove_1 : decode cJ41_remove 1 = .ok (.invokevirtual 20, 3) := dk_182 0 20 (dk_at dksJ41_remove_0 1 rfl rfl)
theorem dJ41_remove_4 : decode cJ41_remove 4 = .ok (.astore_n 1, 1) := dk_76 (dk_at dksJ41_remove_0 4 rfl rfl)
theorem dJ41_remove_5 : decode cJ41_remove 5 = .ok (.aload_n 1, 1) := dk_43 (dk_at dksJ41_remove_0 5 rfl rfl)
theorem dJ41_remove_6 : decode cJ41_remove 6 = .ok (.ifnull 5, 3) := dk_198 0 5 (dk_at dksJ41_remove_0 6 rfl rfl)
theorem dJ41_remove_9 : decode cJ41_remove 9 = .ok (.aload_n 1, 1) := dk_43 (dk_at dksJ41_remove_0 9 rfl rfl)
theorem dJ41_remove_10 : decode cJ41_remove 10 = .ok (.areturn, 1) := dk_176 (dk_at dksJ41_remove_0 10 rfl rfl)
theorem dJ41_remove_11 : decode cJ41_remove 11 = .ok (.new 24, 3) := dk_187 0 24 (dk_at dksJ41_remove_0 11 rfl rfl)
theorem dJ41_remove_14 : decode cJ41_remove 14 = .ok (.dup, 1) := dk_89 (dk_at dksJ41_remove_0 14 rfl rfl)
theorem dJ41_remove_15 : decode cJ41_remove 15 = .ok (.invokespecial 26, 3) := dk_183 0 26 (dk_at dksJ41_remove_0 15 rfl rfl)
theorem dJ41_remove_18 : decode cJ41_remove 18 = .ok (.athrow, 1) := dk_191 (dk_at dksJ41_remove_0 18 rfl rfl)
abbrev cJ42_toArray : ByteArray := prog_74_method_20_code
def yJ42_toArray : MethodName := ⟨RJ42, "toArray", "()[Ljava/lang/Object;"⟩
def dkwJ42_toArray_0 : List UInt8 := [42, 180, 0, 17, 42, 180, 0, 58, 184, 0, 86, 176]
abbrev dktJ42_toArray_0 : List UInt8 := dkwJ42_toArray_0 ++ []
theorem dksJ42_toArray_0 : cJ42_toArray.data.toList.drop 0 = dktJ42_toArray_0 := by decide +kernel
theorem dJ42_toArray_0 : decode cJ42_toArray 0 = .ok (.aload_n 0, 1) := dk_42 (dk_at dksJ42_toArray_0 0 rfl rfl)
theorem dJ42_toArray_1 : decode cJ42_toArray 1 = .ok (.getfield 17, 3) := dk_180 0 17 (dk_at dksJ42_toArray_0 1 rfl rfl)
theorem dJ42_toArray_4 : decode cJ42_toArray 4 = .ok (.aload_n 0, 1) := dk_42 (dk_at dksJ42_toArray_0 4 rfl rfl)
theorem dJ42_toArray_5 : decode cJ42_toArray 5 = .ok (.getfield 58, 3) := dk_180 0 58 (dk_at dksJ42_toArray_0 5 rfl rfl)
theorem dJ42_toArray_8 : decode cJ42_toArray 8 = .ok (.invokestatic 86, 3) := dk_184 0 86 (dk_at dksJ42_toArray_0 8 rfl rfl)
theorem dJ42_toArray_11 : decode cJ42_toArray 11 = .ok (.areturn, 1) := dk_176 (dk_at dksJ42_toArray_0 11 rfl rfl)
abbrev cJ42_size : ByteArray := prog_74_method_23_code
def yJ42_size : MethodName := ⟨RJ42, "size", "()I"⟩
theorem dJ42_size_0 : decode cJ42_size 0 = .ok (.aload_n 0, 1) := by decide +kernel
theorem dJ42_size_1 : decode cJ42_size 1 = .ok (.getfield 58, 3) := by decide +kernel
theorem dJ42_size_4 : decode cJ42_size 4 = .ok (.ireturn, 1) := by decide +kernel
abbrev cJ42_iterator : ByteArray := prog_74_method_22_code
def yJ42_iterator : MethodName := ⟨RJ42, "iterator", "()Ljava/util/Iterator;"⟩
def dkwJ42_iterator_0 : List UInt8 := [187, 0, 121, 89, 42, 183, 0, 123, 176]
abbrev dktJ42_iterator_0 : List UInt8 := dkwJ42_iterator_0 ++ []
theorem dksJ42_iterator_0 : cJ42_iterator.data.toList.drop 0 = dktJ42_iterator_0 := by decide +kernel
theorem dJ42_iterator_0 : decode cJ42_iterator 0 = .ok (.new 121, 3) := dk_187 0 121 (dk_at dksJ42_iterator_0 0 rfl rfl)
theorem dJ42_iterator_3 : decode cJ42_iterator 3 = .ok (.dup, 1) := dk_89 (dk_at dksJ42_iterator_0 3 rfl rfl)
theorem dJ42_iterator_4 : decode cJ42_iterator 4 = .ok (.aload_n 0, 1) := dk_42 (dk_at dksJ42_iterator_0 4 rfl rfl)
theorem dJ42_iterator_5 : decode cJ42_iterator 5 = .ok (.invokespecial 123, 3) := dk_183 0 123 (dk_at dksJ42_iterator_0 5 rfl rfl)
theorem dJ42_iterator_8 : decode cJ42_iterator 8 = .ok (.areturn, 1) := dk_176 (dk_at dksJ42_iterator_0 8 rfl rfl)
abbrev cJ42_init : ByteArray := prog_74_method_3_code
def yJ42_init : MethodName := ⟨RJ42, "<init>", "(Ljava/util/Comparator;)V"⟩
def dkwJ42_init_0 : List UInt8 := [42, 16, 11, 43, 183, 0, 3, 177]
abbrev dktJ42_init_0 : List UInt8 := dkwJ42_init_0 ++ []
theorem dksJ42_init_0 : cJ42_init.data.toList.drop 0 = dktJ42_init_0 := by decide +kernel
theorem dJ42_init_0 : decode cJ42_init 0 = .ok (.aload_n 0, 1) := dk_42 (dk_at dksJ42_init_0 0 rfl rfl)
theorem dJ42_init_1 : decode cJ42_init 1 = .ok (.bipush 11, 2) := dk_16 11 (dk_at dksJ42_init_0 1 rfl rfl)
theorem dJ42_init_3 : decode cJ42_init 3 = .ok (.aload_n 1, 1) := dk_43 (dk_at dksJ42_init_0 3 rfl rfl)
theorem dJ42_init_4 : decode cJ42_init 4 = .ok (.invokespecial 3, 3) := dk_183 0 3 (dk_at dksJ42_init_0 4 rfl rfl)
theorem dJ42_init_7 : decode cJ42_init 7 = .ok (.return_, 1) := dk_177 (dk_at dksJ42_init_0 7 rfl rfl)
abbrev cJ42_init_2 : ByteArray := prog_74_method_4_code
def yJ42_init_2 : MethodName := ⟨RJ42, "<init>", "(ILjava/util/Comparator;)V"⟩
def dkwJ42_init_2_1 : List UInt8 := [181, 0, 17, 42, 44, 181, 0, 21, 177]
abbrev dktJ42_init_2_1 : List UInt8 := dkwJ42_init_2_1 ++ []
def dkwJ42_init_2_0 : List UInt8 := [42, 183, 0, 7, 27, 4, 162, 0, 11, 187, 0, 12, 89, 183, 0, 14, 191, 42, 27, 189, 0, 15]
abbrev dktJ42_init_2_0 : List UInt8 := dkwJ42_init_2_0 ++ dktJ42_init_2_1
theorem dksJ42_init_2_0 : cJ42_init_2.data.toList.drop 0 = dktJ42_init_2_0 := by decide +kernel
theorem dksJ42_init_2_1 : cJ42_init_2.data.toList.drop 22 = dktJ42_init_2_1 := dk_seg dksJ42_init_2_0 22 rfl rfl
theorem dJ42_init_2_0 : decode cJ42_init_2 0 = .ok (.aload_n 0, 1) := dk_42 (dk_at dksJ42_init_2_0 0 rfl rfl)
theorem dJ42_init_2_1 : decode cJ42_init_2 1 = .ok (.invokespecial 7, 3) := dk_183 0 7 (dk_at dksJ42_init_2_0 1 rfl rfl)
theorem dJ42_init_2_4 : decode cJ42_init_2 4 = .ok (.iload_n 1, 1) := dk_27 (dk_at dksJ42_init_2_0 4 rfl rfl)
theorem dJ42_init_2_5 : decode cJ42_init_2 5 = .ok (.iconst 1, 1) := dk_4 (dk_at dksJ42_init_2_0 5 rfl rfl)
theorem dJ42_init_2_6 : decode cJ42_init_2 6 = .ok (.if_icmp .ge 11, 3) := dk_162 0 11 (dk_at dksJ42_init_2_0 6 rfl rfl)
theorem dJ42_init_2_9 : decode cJ42_init_2 9 = .ok (.new 12, 3) := dk_187 0 12 (dk_at dksJ42_init_2_0 9 rfl rfl)
theorem dJ42_init_2_12 : decode cJ42_init_2 12 = .ok (.dup, 1) := dk_89 (dk_at dksJ42_init_2_0 12 rfl rfl)
theorem dJ42_init_2_13 : decode cJ42_init_2 13 = .ok (.invokespecial 14, 3) := dk_183 0 14 (dk_at dksJ42_init_2_0 13 rfl rfl)
theorem dJ42_init_2_16 : decode cJ42_init_2 16 = .ok (.athrow, 1) := dk_191 (dk_at dksJ42_init_2_0 16 rfl rfl)
theorem dJ42_init_2_17 : decode cJ42_init_2 17 = .ok (.aload_n 0, 1) := dk_42 (dk_at dksJ42_init_2_0 17 rfl rfl)
theorem dJ42_init_2_18 : decode cJ42_init_2 18 = .ok (.iload_n 1, 1) := dk_27 (dk_at dksJ42_init_2_0 18 rfl rfl)
theorem dJ42_init_2_19 : decode cJ42_init_2 19 = .ok (.anewarray 15, 3) := dk_189 0 15 (dk_at dksJ42_init_2_0 19 rfl rfl)
theorem dJ42_init_2_22 : decode cJ42_init_2 22 = .ok (.putfield 17, 3) := dk_181 0 17 (dk_at dksJ42_init_2_1 0 rfl rfl)
theorem dJ42_init_2_25 : decode cJ42_init_2 25 = .ok (.aload_n 0, 1) := dk_42 (dk_at dksJ42_init_2_1 3 rfl rfl)
theorem dJ42_init_2_26 : decode cJ42_init_2 26 = .ok (.aload_n 2, 1) := dk_44 (dk_at dksJ42_init_2_1 4 rfl rfl)
theorem dJ42_init_2_27 : decode cJ42_init_2 27 = .ok (.putfield 21, 3) := dk_181 0 21 (dk_at dksJ42_init_2_1 5 rfl rfl)
theorem dJ42_init_2_30 : decode cJ42_init_2 30 = .ok (.return_, 1) := dk_177 (dk_at dksJ42_init_2_1 8 rfl rfl)
abbrev cJ42_add : ByteArray := prog_74_method_13_code
def yJ42_add : MethodName := ⟨RJ42, "add", "(Ljava/lang/Object;)Z"⟩
def dkwJ42_add_0 : List UInt8 := [42, 43, 182, 0, 89, 172]
abbrev dktJ42_add_0 : List UInt8 := dkwJ42_add_0 ++ []
theorem dksJ42_add_0 : cJ42_add.data.toList.drop 0 = dktJ42_add_0 := by decide +kernel
theorem dJ42_add_0 : decode cJ42_add 0 = .ok (.aload_n 0, 1) := dk_42 (dk_at dksJ42_add_0 0 rfl rfl)
theorem dJ42_add_1 : decode cJ42_add 1 = .ok (.aload_n 1, 1) := dk_43 (dk_at dksJ42_add_0 1 rfl rfl)
theorem dJ42_add_2 : decode cJ42_add 2 = .ok (.invokevirtual 89, 3) := dk_182 0 89 (dk_at dksJ42_add_0 2 rfl rfl)
theorem dJ42_add_5 : decode cJ42_add 5 = .ok (.ireturn, 1) := dk_172 (dk_at dksJ42_add_0 5 rfl rfl)
abbrev cJ42_offer : ByteArray := prog_74_method_14_code
def yJ42_offer : MethodName := ⟨RJ42, "offer", "(Ljava/lang/Object;)Z"⟩
def dkwJ42_offer_2 : List UInt8 := [182, 0, 100, 42, 28, 4, 96, 181, 0, 58, 4, 172]
abbrev dktJ42_offer_2 : List UInt8 := dkwJ42_offer_2 ++ []
def dkwJ42_offer_1 : List UInt8 := [180, 0, 58, 61, 28, 42, 180, 0, 17, 190, 161, 0, 10, 42, 28, 4, 96, 182, 0, 96, 42, 28, 43]
abbrev dktJ42_offer_1 : List UInt8 := dkwJ42_offer_1 ++ dktJ42_offer_2
def dkwJ42_offer_0 : List UInt8 := [43, 199, 0, 11, 187, 0, 74, 89, 183, 0, 76, 191, 42, 89, 180, 0, 93, 4, 96, 181, 0, 93, 42]
abbrev dktJ42_offer_0 : List UInt8 := dkwJ42_offer_0 ++ dktJ42_offer_1
theorem dksJ42_offer_0 : cJ42_offer.data.toList.drop 0 = dktJ42_offer_0 := by decide +kernel
theorem dksJ42_offer_1 : cJ42_offer.data.toList.drop 23 = dktJ42_offer_1 := dk_seg dksJ42_offer_0 23 rfl rfl
theorem dksJ42_offer_2 : cJ42_offer.data.toList.drop 46 = dktJ42_offer_2 := dk_seg dksJ42_offer_1 23 rfl rfl
theorem dJ42_offer_0 : decode cJ42_offer 0 = .ok (.aload_n 1, 1) := dk_43 (dk_at dksJ42_offer_0 0 rfl rfl)
theorem dJ42_offer_1 : decode cJ42_offer 1 = .ok (.ifnonnull 11, 3) := dk_199 0 11 (dk_at dksJ42_offer_0 1 rfl rfl)
theorem dJ42_offer_4 : decode cJ42_offer 4 = .ok (.new 74, 3) := dk_187 0 74 (dk_at dksJ42_offer_0 4 rfl rfl)
theorem dJ42_offer_7 : decode cJ42_offer 7 = .ok (.dup, 1) := dk_89 (dk_at dksJ42_offer_0 7 rfl rfl)
theorem dJ42_offer_8 : decode cJ42_offer 8 = .ok (.invokespecial 76, 3) := dk_183 0 76 (dk_at dksJ42_offer_0 8 rfl rfl)
theorem dJ42_offer_11 : decode cJ42_offer 11 = .ok (.athrow, 1) := dk_191 (dk_at dksJ42_offer_0 11 rfl rfl)
theorem dJ42_offer_12 : decode cJ42_offer 12 = .ok (.aload_n 0, 1) := dk_42 (dk_at dksJ42_offer_0 12 rfl rfl)
theorem dJ42_offer_13 : decode cJ42_offer 13 = .ok (.dup, 1) := dk_89 (dk_at dksJ42_offer_0 13 rfl rfl)
theorem dJ42_offer_14 : decode cJ42_offer 14 = .ok (.getfield 93, 3) := dk_180 0 93 (dk_at dksJ42_offer_0 14 rfl rfl)
theorem dJ42_offer_17 : decode cJ42_offer 17 = .ok (.iconst 1, 1) := dk_4 (dk_at dksJ42_offer_0 17 rfl rfl)
theorem dJ42_offer_18 : decode cJ42_offer 18 = .ok (.iadd, 1) := dk_96 (dk_at dksJ42_offer_0 18 rfl rfl)
theorem dJ42_offer_19 : decode cJ42_offer 19 = .ok (.putfield 93, 3) := dk_181 0 93 (dk_at dksJ42_offer_0 19 rfl rfl)
theorem dJ42_offer_22 : decode cJ42_offer 22 = .ok (.aload_n 0, 1) := dk_42 (dk_at dksJ42_offer_0 22 rfl rfl)
theorem dJ42_offer_23 : decode cJ42_offer 23 = .ok (.getfield 58, 3) := dk_180 0 58 (dk_at dksJ42_offer_1 0 rfl rfl)
theorem dJ42_offer_26 : decode cJ42_offer 26 = .ok (.istore_n 2, 1) := dk_61 (dk_at dksJ42_offer_1 3 rfl rfl)
theorem dJ42_offer_27 : decode cJ42_offer 27 = .ok (.iload_n 2, 1) := dk_28 (dk_at dksJ42_offer_1 4 rfl rfl)
theorem dJ42_offer_28 : decode cJ42_offer 28 = .ok (.aload_n 0, 1) := dk_42 (dk_at dksJ42_offer_1 5 rfl rfl)
theorem dJ42_offer_29 : decode cJ42_offer 29 = .ok (.getfield 17, 3) := dk_180 0 17 (dk_at dksJ42_offer_1 6 rfl rfl)
theorem dJ42_offer_32 : decode cJ42_offer 32 = .ok (.arraylength, 1) := dk_190 (dk_at dksJ42_offer_1 9 rfl rfl)
theorem dJ42_offer_33 : decode cJ42_offer 33 = .ok (.if_icmp .lt 10, 3) := dk_161 0 10 (dk_at dksJ42_offer_1 10 rfl rfl)
theorem dJ42_offer_36 : decode cJ42_offer 36 = .ok (.aload_n 0, 1) := dk_42 (dk_at dksJ42_offer_1 13 rfl rfl)
theorem dJ42_offer_37 : decode cJ42_offer 37 = .ok (.iload_n 2, 1) := dk_28 (dk_at dksJ42_offer_1 14 rfl rfl)
theorem dJ42_offer_38 : decode cJ42_offer 38 = .ok (.iconst 1, 1) := dk_4 (dk_at dksJ42_offer_1 15 rfl rfl)
theorem dJ42_offer_39 : decode cJ42_offer 39 = .ok (.iadd, 1) := dk_96 (dk_at dksJ42_offer_1 16 rfl rfl)
theorem dJ42_offer_40 : decode cJ42_offer 40 = .ok (.invokevirtual 96, 3) := dk_182 0 96 (dk_at dksJ42_offer_1 17 rfl rfl)
theorem dJ42_offer_43 : decode cJ42_offer 43 = .ok (.aload_n 0, 1) := dk_42 (dk_at dksJ42_offer_1 20 rfl rfl)
theorem dJ42_offer_44 : decode cJ42_offer 44 = .ok (.iload_n 2, 1) := dk_28 (dk_at dksJ42_offer_1 21 rfl rfl)
theorem dJ42_offer_45 : decode cJ42_offer 45 = .ok (.aload_n 1, 1) := dk_43 (dk_at dksJ42_offer_1 22 rfl rfl)
theorem dJ42_offer_46 : decode cJ42_offer 46 = .ok (.invokevirtual 100, 3) := dk_182 0 100 (dk_at dksJ42_offer_2 0 rfl rfl)
theorem dJ42_offer_49 : decode cJ42_offer 49 = .ok (.aload_n 0, 1) := dk_42 (dk_at dksJ42_offer_2 3 rfl rfl)
theorem dJ42_offer_50 : decode cJ42_offer 50 = .ok (.iload_n 2, 1) := dk_28 (dk_at dksJ42_offer_2 4 rfl rfl)
theorem dJ42_offer_51 : decode cJ42_offer 51 = .ok (.iconst 1, 1) := dk_4 (dk_at dksJ42_offer_2 5 rfl rfl)
theorem dJ42_offer_52 : decode cJ42_offer 52 = .ok (.iadd, 1) := dk_96 (dk_at dksJ42_offer_2 6 rfl rfl)
theorem dJ42_offer_53 : decode cJ42_offer 53 = .ok (.putfield 58, 3) := dk_181 0 58 (dk_at dksJ42_offer_2 7 rfl rfl)
theorem dJ42_offer_56 : decode cJ42_offer 56 = .ok (.iconst 1, 1) := dk_4 (dk_at dksJ42_offer_2 10 rfl rfl)
theorem dJ42_offer_57 : decode cJ42_offer 57 = .ok (.ireturn, 1) := dk_172 (dk_at dksJ42_offer_2 11 rfl rfl)
abbrev cJ42_grow : ByteArray := prog_74_method_12_code
def yJ42_grow : MethodName := ⟨RJ42, "grow", "(I)V"⟩
def dkwJ42_grow_1 : List UInt8 := [122, 184, 0, 80, 62, 42, 42, 180, 0, 17, 29, 184, 0, 86, 181, 0, 17, 177]
abbrev dktJ42_grow_1 : List UInt8 := dkwJ42_grow_1 ++ []
def dkwJ42_grow_0 : List UInt8 := [42, 180, 0, 17, 190, 61, 28, 27, 28, 100, 28, 16, 64, 162, 0, 9, 28, 5, 96, 167, 0, 6, 28, 4]
abbrev dktJ42_grow_0 : List UInt8 := dkwJ42_grow_0 ++ dktJ42_grow_1
theorem dksJ42_grow_0 : cJ42_grow.data.toList.drop 0 = dktJ42_grow_0 := by decide +kernel
theorem dksJ42_grow_1 : cJ42_grow.data.toList.drop 24 = dktJ42_grow_1 := dk_seg dksJ42_grow_0 24 rfl rfl
theorem dJ42_grow_0 : decode cJ42_grow 0 = .ok (.aload_n 0, 1) := dk_42 (dk_at dksJ42_grow_0 0 rfl rfl)
theorem dJ42_grow_1 : decode cJ42_grow 1 = .ok (.getfield 17, 3) := dk_180 0 17 (dk_at dksJ42_grow_0 1 rfl rfl)
theorem dJ42_grow_4 : decode cJ42_grow 4 = .ok (.arraylength, 1) := dk_190 (dk_at dksJ42_grow_0 4 rfl rfl)
theorem dJ42_grow_5 : decode cJ42_grow 5 = .ok (.istore_n 2, 1) := dk_61 (dk_at dksJ42_grow_0 5 rfl rfl)
theorem dJ42_grow_6 : decode cJ42_grow 6 = .ok (.iload_n 2, 1) := dk_28 (dk_at dksJ42_grow_0 6 rfl rfl)
theorem dJ42_grow_7 : decode cJ42_grow 7 = .ok (.iload_n 1, 1) := dk_27 (dk_at dksJ42_grow_0 7 rfl rfl)
theorem dJ42_grow_8 : decode cJ42_grow 8 = .ok (.iload_n 2, 1) := dk_28 (dk_at dksJ42_grow_0 8 rfl rfl)
theorem dJ42_grow_9 : decode cJ42_grow 9 = .ok (.isub, 1) := dk_100 (dk_at dksJ42_grow_0 9 rfl rfl)
theorem dJ42_grow_10 : decode cJ42_grow 10 = .ok (.iload_n 2, 1) := dk_28 (dk_at dksJ42_grow_0 10 rfl rfl)
theorem dJ42_grow_11 : decode cJ42_grow 11 = .ok (.bipush 64, 2) := dk_16 64 (dk_at dksJ42_grow_0 11 rfl rfl)
theorem dJ42_grow_13 : decode cJ42_grow 13 = .ok (.if_icmp .ge 9, 3) := dk_162 0 9 (dk_at dksJ42_grow_0 13 rfl rfl)
theorem dJ42_grow_16 : decode cJ42_grow 16 = .ok (.iload_n 2, 1) := dk_28 (dk_at dksJ42_grow_0 16 rfl rfl)
theorem dJ42_grow_17 : decode cJ42_grow 17 = .ok (.iconst 2, 1) := dk_5 (dk_at dksJ42_grow_0 17 rfl rfl)
theorem dJ42_grow_18 : decode cJ42_grow 18 = .ok (.iadd, 1) := dk_96 (dk_at dksJ42_grow_0 18 rfl rfl)
theorem dJ42_grow_19 : decode cJ42_grow 19 = .ok (.goto 6, 3) := dk_167 0 6 (dk_at dksJ42_grow_0 19 rfl rfl)
theorem dJ42_grow_22 : decode cJ42_grow 22 = .ok (.iload_n 2, 1) := dk_28 (dk_at dksJ42_grow_0 22 rfl rfl)
theorem dJ42_grow_23 : decode cJ42_grow 23 = .ok (.iconst 1, 1) := dk_4 (dk_at dksJ42_grow_0 23 rfl rfl)
theorem dJ42_grow_24 : decode cJ42_grow 24 = .ok (.ishr, 1) := dk_122 (dk_at dksJ42_grow_1 0 rfl rfl)
theorem dJ42_grow_25 : decode cJ42_grow 25 = .ok (.invokestatic 80, 3) := dk_184 0 80 (dk_at dksJ42_grow_1 1 rfl rfl)
theorem dJ42_grow_28 : decode cJ42_grow 28 = .ok (.istore_n 3, 1) := dk_62 (dk_at dksJ42_grow_1 4 rfl rfl)
theorem dJ42_grow_29 : decode cJ42_grow 29 = .ok (.aload_n 0, 1) := dk_42 (dk_at dksJ42_grow_1 5 rfl rfl)
theorem dJ42_grow_30 : decode cJ42_grow 30 = .ok (.aload_n 0, 1) := dk_42 (dk_at dksJ42_grow_1 6 rfl rfl)
theorem dJ42_grow_31 : decode cJ42_grow 31 = .ok (.getfield 17, 3) := dk_180 0 17 (dk_at dksJ42_grow_1 7 rfl rfl)
theorem dJ42_grow_34 : decode cJ42_grow 34 = .ok (.iload_n 3, 1) := dk_29 (dk_at dksJ42_grow_1 10 rfl rfl)
theorem dJ42_grow_35 : decode cJ42_grow 35 = .ok (.invokestatic 86, 3) := dk_184 0 86 (dk_at dksJ42_grow_1 11 rfl rfl)
theorem dJ42_grow_38 : decode cJ42_grow 38 = .ok (.putfield 17, 3) := dk_181 0 17 (dk_at dksJ42_grow_1 14 rfl rfl)
theorem dJ42_grow_41 : decode cJ42_grow 41 = .ok (.return_, 1) := dk_177 (dk_at dksJ42_grow_1 17 rfl rfl)
abbrev cJ42_siftUp : ByteArray := prog_74_method_27_code
def yJ42_siftUp : MethodName := ⟨RJ42, "siftUp", "(ILjava/lang/Object;)V"⟩
def dkwJ42_siftUp_1 : List UInt8 := [44, 42, 180, 0, 17, 184, 0, 140, 177]
abbrev dktJ42_siftUp_1 : List UInt8 := dkwJ42_siftUp_1 ++ []
def dkwJ42_siftUp_0 : List UInt8 := [42, 180, 0, 21, 198, 0, 19, 27, 44, 42, 180, 0, 17, 42, 180, 0, 21, 184, 0, 136, 167, 0, 12, 27]
abbrev dktJ42_siftUp_0 : List UInt8 := dkwJ42_siftUp_0 ++ dktJ42_siftUp_1
theorem dksJ42_siftUp_0 : cJ42_siftUp.data.toList.drop 0 = dktJ42_siftUp_0 := by decide +kernel
theorem dksJ42_siftUp_1 : cJ42_siftUp.data.toList.drop 24 = dktJ42_siftUp_1 := dk_seg dksJ42_siftUp_0 24 rfl rfl
theorem dJ42_siftUp_0 : decode cJ42_siftUp 0 = .ok (.aload_n 0, 1) := dk_42 (dk_at dksJ42_siftUp_0 0 rfl rfl)
theorem dJ42_siftUp_1 : decode cJ42_siftUp 1 = .ok (.getfield 21, 3) := dk_180 0 21 (dk_at dksJ42_siftUp_0 1 rfl rfl)
theorem dJ42_siftUp_4 : decode cJ42_siftUp 4 = .ok (.ifnull 19, 3) := dk_198 0 19 (dk_at dksJ42_siftUp_0 4 rfl rfl)
theorem dJ42_siftUp_7 : decode cJ42_siftUp 7 = .ok (.iload_n 1, 1) := dk_27 (dk_at dksJ42_siftUp_0 7 rfl rfl)
theorem dJ42_siftUp_8 : decode cJ42_siftUp 8 = .ok (.aload_n 2, 1) := dk_44 (dk_at dksJ42_siftUp_0 8 rfl rfl)
theorem dJ42_siftUp_9 : decode cJ42_siftUp 9 = .ok (.aload_n 0, 1) := dk_42 (dk_at dksJ42_siftUp_0 9 rfl rfl)
theorem dJ42_siftUp_10 : decode cJ42_siftUp 10 = .ok (.getfield 17, 3) := dk_180 0 17 (dk_at dksJ42_siftUp_0 10 rfl rfl)
theorem dJ42_siftUp_13 : decode cJ42_siftUp 13 = .ok (.aload_n 0, 1) := dk_42 (dk_at dksJ42_siftUp_0 13 rfl rfl)
theorem dJ42_siftUp_14 : decode cJ42_siftUp 14 = .ok (.getfield 21, 3) := dk_180 0 21 (dk_at dksJ42_siftUp_0 14 rfl rfl)
theorem dJ42_siftUp_17 : decode cJ42_siftUp 17 = .ok (.invokestatic 136, 3) := dk_184 0 136 (dk_at dksJ42_siftUp_0 17 rfl rfl)
theorem dJ42_siftUp_20 : decode cJ42_siftUp 20 = .ok (.goto 12, 3) := dk_167 0 12 (dk_at dksJ42_siftUp_0 20 rfl rfl)
theorem dJ42_siftUp_23 : decode cJ42_siftUp 23 = .ok (.iload_n 1, 1) := dk_27 (dk_at dksJ42_siftUp_0 23 rfl rfl)
theorem dJ42_siftUp_24 : decode cJ42_siftUp 24 = .ok (.aload_n 2, 1) := dk_44 (dk_at dksJ42_siftUp_1 0 rfl rfl)
theorem dJ42_siftUp_25 : decode cJ42_siftUp 25 = .ok (.aload_n 0, 1) := dk_42 (dk_at dksJ42_siftUp_1 1 rfl rfl)
theorem dJ42_siftUp_26 : decode cJ42_siftUp 26 = .ok (.getfield 17, 3) := dk_180 0 17 (dk_at dksJ42_siftUp_1 2 rfl rfl)
theorem dJ42_siftUp_29 : decode cJ42_siftUp 29 = .ok (.invokestatic 140, 3) := dk_184 0 140 (dk_at dksJ42_siftUp_1 5 rfl rfl)
theorem dJ42_siftUp_32 : decode cJ42_siftUp 32 = .ok (.return_, 1) := dk_177 (dk_at dksJ42_siftUp_1 8 rfl rfl)
abbrev cJ42_siftUpUsingComparator : ByteArray := prog_74_method_29_code
def yJ42_siftUpUsingComparator : MethodName := ⟨RJ42, "siftUpUsingComparator", "(ILjava/lang/Object;[Ljava/lang/Object;Ljava/util/Comparator;)V"⟩
def dkwJ42_siftUpUsingComparator_2 : List UInt8 := [43, 83, 177]
abbrev dktJ42_siftUpUsingComparator_2 : List UInt8 := dkwJ42_siftUpUsingComparator_2 ++ []
def dkwJ42_siftUpUsingComparator_1 : List UInt8 := [185, 0, 149, 3, 0, 155, 0, 6, 167, 0, 14, 44, 26, 25, 5, 83, 21, 4, 59, 167, 255, 216, 44, 26]
abbrev dktJ42_siftUpUsingComparator_1 : List UInt8 := dkwJ42_siftUpUsingComparator_1 ++ dktJ42_siftUpUsingComparator_2
def dkwJ42_siftUpUsingComparator_0 : List UInt8 := [26, 158, 0, 42, 26, 4, 100, 4, 124, 54, 4, 44, 21, 4, 50, 58, 5, 45, 43, 25, 5]
abbrev dktJ42_siftUpUsingComparator_0 : List UInt8 := dkwJ42_siftUpUsingComparator_0 ++ dktJ42_siftUpUsingComparator_1
theorem dksJ42_siftUpUsingComparator_0 : cJ42_siftUpUsingComparator.data.toList.drop 0 = dktJ42_siftUpUsingComparator_0 := by decide +kernel
theorem dksJ42_siftUpUsingComparator_1 : cJ42_siftUpUsingComparator.data.toList.drop 21 = dktJ42_siftUpUsingComparator_1 := dk_seg dksJ42_siftUpUsingComparator_0 21 rfl rfl
theorem dksJ42_siftUpUsingComparator_2 : cJ42_siftUpUsingComparator.data.toList.drop 45 = dktJ42_siftUpUsingComparator_2 := dk_seg dksJ42_siftUpUsingComparator_1 24 rfl rfl
theorem dJ42_siftUpUsingComparator_0 : decode cJ42_siftUpUsingComparator 0 = .ok (.iload_n 0, 1) := dk_26 (dk_at dksJ42_siftUpUsingComparator_0 0 rfl rfl)
theorem dJ42_siftUpUsingComparator_1 : decode cJ42_siftUpUsingComparator 1 = .ok (.ifCond .le 42, 3) := dk_158 0 42 (dk_at dksJ42_siftUpUsingComparator_0 1 rfl rfl)
theorem dJ42_siftUpUsingComparator_4 : decode cJ42_siftUpUsingComparator 4 = .ok (.iload_n 0, 1) := dk_26 (dk_at dksJ42_siftUpUsingComparator_0 4 rfl rfl)
theorem dJ42_siftUpUsingComparator_5 : decode cJ42_siftUpUsingComparator 5 = .ok (.iconst 1, 1) := dk_4 (dk_at dksJ42_siftUpUsingComparator_0 5 rfl rfl)
theorem dJ42_siftUpUsingComparator_6 : decode cJ42_siftUpUsingComparator 6 = .ok (.isub, 1) := dk_100 (dk_at dksJ42_siftUpUsingComparator_0 6 rfl rfl)
theorem dJ42_siftUpUsingComparator_7 : decode cJ42_siftUpUsingComparator 7 = .ok (.iconst 1, 1) := dk_4 (dk_at dksJ42_siftUpUsingComparator_0 7 rfl rfl)
theorem dJ42_siftUpUsingComparator_8 : decode cJ42_siftUpUsingComparator 8 = .ok (.iushr, 1) := dk_124 (dk_at dksJ42_siftUpUsingComparator_0 8 rfl rfl)
theorem dJ42_siftUpUsingComparator_9 : decode cJ42_siftUpUsingComparator 9 = .ok (.istore 4, 2) := dk_54 4 (dk_at dksJ42_siftUpUsingComparator_0 9 rfl rfl)
theorem dJ42_siftUpUsingComparator_11 : decode cJ42_siftUpUsingComparator 11 = .ok (.aload_n 2, 1) := dk_44 (dk_at dksJ42_siftUpUsingComparator_0 11 rfl rfl)
theorem dJ42_siftUpUsingComparator_12 : decode cJ42_siftUpUsingComparator 12 = .ok (.iload 4, 2) := dk_21 4 (dk_at dksJ42_siftUpUsingComparator_0 12 rfl rfl)
theorem dJ42_siftUpUsingComparator_14 : decode cJ42_siftUpUsingComparator 14 = .ok (.aaload, 1) := dk_50 (dk_at dksJ42_siftUpUsingComparator_0 14 rfl rfl)
theorem dJ42_siftUpUsingComparator_15 : decode cJ42_siftUpUsingComparator 15 = .ok (.astore 5, 2) := dk_58 5 (dk_at dksJ42_siftUpUsingComparator_0 15 rfl rfl)
theorem dJ42_siftUpUsingComparator_17 : decode cJ42_siftUpUsingComparator 17 = .ok (.aload_n 3, 1) := dk_45 (dk_at dksJ42_siftUpUsingComparator_0 17 rfl rfl)
theorem dJ42_siftUpUsingComparator_18 : decode cJ42_siftUpUsingComparator 18 = .ok (.aload_n 1, 1) := dk_43 (dk_at dksJ42_siftUpUsingComparator_0 18 rfl rfl)
theorem dJ42_siftUpUsingComparator_19 : decode cJ42_siftUpUsingComparator 19 = .ok (.aload 5, 2) := dk_25 5 (dk_at dksJ42_siftUpUsingComparator_0 19 rfl rfl)
theorem dJ42_siftUpUsingComparator_21 : decode cJ42_siftUpUsingComparator 21 = .ok (.invokeinterface 149 3, 5) := by decide +kernel
theorem dJ42_siftUpUsingComparator_26 : decode cJ42_siftUpUsingComparator 26 = .ok (.ifCond .lt 6, 3) := dk_155 0 6 (dk_at dksJ42_siftUpUsingComparator_1 5 rfl rfl)
theorem dJ42_siftUpUsingComparator_29 : decode cJ42_siftUpUsingComparator 29 = .ok (.goto 14, 3) := dk_167 0 14 (dk_at dksJ42_siftUpUsingComparator_1 8 rfl rfl)
theorem dJ42_siftUpUsingComparator_32 : decode cJ42_siftUpUsingComparator 32 = .ok (.aload_n 2, 1) := dk_44 (dk_at dksJ42_siftUpUsingComparator_1 11 rfl rfl)
theorem dJ42_siftUpUsingComparator_33 : decode cJ42_siftUpUsingComparator 33 = .ok (.iload_n 0, 1) := dk_26 (dk_at dksJ42_siftUpUsingComparator_1 12 rfl rfl)
theorem dJ42_siftUpUsingComparator_34 : decode cJ42_siftUpUsingComparator 34 = .ok (.aload 5, 2) := dk_25 5 (dk_at dksJ42_siftUpUsingComparator_1 13 rfl rfl)
theorem dJ42_siftUpUsingComparator_36 : decode cJ42_siftUpUsingComparator 36 = .ok (.aastore, 1) := dk_83 (dk_at dksJ42_siftUpUsingComparator_1 15 rfl rfl)
theorem dJ42_siftUpUsingComparator_37 : decode cJ42_siftUpUsingComparator 37 = .ok (.iload 4, 2) := dk_21 4 (dk_at dksJ42_siftUpUsingComparator_1 16 rfl rfl)
theorem dJ42_siftUpUsingComparator_39 : decode cJ42_siftUpUsingComparator 39 = .ok (.istore_n 0, 1) := dk_59 (dk_at dksJ42_siftUpUsingComparator_1 18 rfl rfl)
theorem dJ42_siftUpUsingComparator_40 : decode cJ42_siftUpUsingComparator 40 = .ok (.goto (-40), 3) := dk_167 255 216 (dk_at dksJ42_siftUpUsingComparator_1 19 rfl rfl)
theorem dJ42_siftUpUsingComparator_43 : decode cJ42_siftUpUsingComparator 43 = .ok (.aload_n 2, 1) := dk_44 (dk_at dksJ42_siftUpUsingComparator_1 22 rfl rfl)
theorem dJ42_siftUpUsingComparator_44 : decode cJ42_siftUpUsingComparator 44 = .ok (.iload_n 0, 1) := dk_26 (dk_at dksJ42_siftUpUsingComparator_1 23 rfl rfl)
theorem dJ42_siftUpUsingComparator_45 : decode cJ42_siftUpUsingComparator 45 = .ok (.aload_n 1, 1) := dk_43 (dk_at dksJ42_siftUpUsingComparator_2 0 rfl rfl)
theorem dJ42_siftUpUsingComparator_46 : decode cJ42_siftUpUsingComparator 46 = .ok (.aastore, 1) := dk_83 (dk_at dksJ42_siftUpUsingComparator_2 1 rfl rfl)
theorem dJ42_siftUpUsingComparator_47 : decode cJ42_siftUpUsingComparator 47 = .ok (.return_, 1) := dk_177 (dk_at dksJ42_siftUpUsingComparator_2 2 rfl rfl)
abbrev cJ42_siftUpComparable : ByteArray := prog_74_method_28_code
def yJ42_siftUpComparable : MethodName := ⟨RJ42, "siftUpComparable", "(ILjava/lang/Object;[Ljava/lang/Object;)V"⟩
def dkwJ42_siftUpComparable_2 : List UInt8 := [44, 26, 45, 83, 177]
abbrev dktJ42_siftUpComparable_2 : List UInt8 := dkwJ42_siftUpComparable_2 ++ []
def dkwJ42_siftUpComparable_1 : List UInt8 := [25, 5, 185, 0, 146, 2, 0, 155, 0, 6, 167, 0, 14, 44, 26, 25, 5, 83, 21, 4, 59, 167, 255, 217]
abbrev dktJ42_siftUpComparable_1 : List UInt8 := dkwJ42_siftUpComparable_1 ++ dktJ42_siftUpComparable_2
def dkwJ42_siftUpComparable_0 : List UInt8 := [43, 192, 0, 144, 78, 26, 158, 0, 41, 26, 4, 100, 4, 124, 54, 4, 44, 21, 4, 50, 58, 5, 45]
abbrev dktJ42_siftUpComparable_0 : List UInt8 := dkwJ42_siftUpComparable_0 ++ dktJ42_siftUpComparable_1
theorem dksJ42_siftUpComparable_0 : cJ42_siftUpComparable.data.toList.drop 0 = dktJ42_siftUpComparable_0 := by decide +kernel
theorem dksJ42_siftUpComparable_1 : cJ42_siftUpComparable.data.toList.drop 23 = dktJ42_siftUpComparable_1 := dk_seg dksJ42_siftUpComparable_0 23 rfl rfl
theorem dksJ42_siftUpComparable_2 : cJ42_siftUpComparable.data.toList.drop 47 = dktJ42_siftUpComparable_2 := dk_seg dksJ42_siftUpComparable_1 24 rfl rfl
theorem dJ42_siftUpComparable_0 : decode cJ42_siftUpComparable 0 = .ok (.aload_n 1, 1) := dk_43 (dk_at dksJ42_siftUpComparable_0 0 rfl rfl)
theorem dJ42_siftUpComparable_1 : decode cJ42_siftUpComparable 1 = .ok (.checkcast 144, 3) := dk_192 0 144 (dk_at dksJ42_siftUpComparable_0 1 rfl rfl)
theorem dJ42_siftUpComparable_4 : decode cJ42_siftUpComparable 4 = .ok (.astore_n 3, 1) := dk_78 (dk_at dksJ42_siftUpComparable_0 4 rfl rfl)
theorem dJ42_siftUpComparable_5 : decode cJ42_siftUpComparable 5 = .ok (.iload_n 0, 1) := dk_26 (dk_at dksJ42_siftUpComparable_0 5 rfl rfl)
theorem dJ42_siftUpComparable_6 : decode cJ42_siftUpComparable 6 = .ok (.ifCond .le 41, 3) := dk_158 0 41 (dk_at dksJ42_siftUpComparable_0 6 rfl rfl)
theorem dJ42_siftUpComparable_9 : decode cJ42_siftUpComparable 9 = .ok (.iload_n 0, 1) := dk_26 (dk_at dksJ42_siftUpComparable_0 9 rfl rfl)
theorem dJ42_siftUpComparable_10 : decode cJ42_siftUpComparable 10 = .ok (.iconst 1, 1) := dk_4 (dk_at dksJ42_siftUpComparable_0 10 rfl rfl)
theorem dJ42_siftUpComparable_11 : decode cJ42_siftUpComparable 11 = .ok (.isub, 1) := dk_100 (dk_at dksJ42_siftUpComparable_0 11 rfl rfl)
theorem dJ42_siftUpComparable_12 : decode cJ42_siftUpComparable 12 = .ok (.iconst 1, 1) := dk_4 (dk_at dksJ42_siftUpComparable_0 12 rfl rfl)
theorem dJ42_siftUpComparable_13 : decode cJ42_siftUpComparable 13 = .ok (.iushr, 1) := dk_124 (dk_at dksJ42_siftUpComparable_0 13 rfl rfl)
theorem dJ42_siftUpComparable_14 : decode cJ42_siftUpComparable 14 = .ok (.istore 4, 2) := dk_54 4 (dk_at dksJ42_siftUpComparable_0 14 rfl rfl)
theorem dJ42_siftUpComparable_16 : decode cJ42_siftUpComparable 16 = .ok (.aload_n 2, 1) := dk_44 (dk_at dksJ42_siftUpComparable_0 16 rfl rfl)
theorem dJ42_siftUpComparable_17 : decode cJ42_siftUpComparable 17 = .ok (.iload 4, 2) := dk_21 4 (dk_at dksJ42_siftUpComparable_0 17 rfl rfl)
theorem dJ42_siftUpComparable_19 : decode cJ42_siftUpComparable 19 = .ok (.aaload, 1) := dk_50 (dk_at dksJ42_siftUpComparable_0 19 rfl rfl)
theorem dJ42_siftUpComparable_20 : decode cJ42_siftUpComparable 20 = .ok (.astore 5, 2) := dk_58 5 (dk_at dksJ42_siftUpComparable_0 20 rfl rfl)
theorem dJ42_siftUpComparable_22 : decode cJ42_siftUpComparable 22 = .ok (.aload_n 3, 1) := dk_45 (dk_at dksJ42_siftUpComparable_0 22 rfl rfl)
theorem dJ42_siftUpComparable_23 : decode cJ42_siftUpComparable 23 = .ok (.aload 5, 2) := dk_25 5 (dk_at dksJ42_siftUpComparable_1 0 rfl rfl)
theorem dJ42_siftUpComparable_25 : decode cJ42_siftUpComparable 25 = .ok (.invokeinterface 146 2, 5) := by decide +kernel
theorem dJ42_siftUpComparable_30 : decode cJ42_siftUpComparable 30 = .ok (.ifCond .lt 6, 3) := dk_155 0 6 (dk_at dksJ42_siftUpComparable_1 7 rfl rfl)
theorem dJ42_siftUpComparable_33 : decode cJ42_siftUpComparable 33 = .ok (.goto 14, 3) := dk_167 0 14 (dk_at dksJ42_siftUpComparable_1 10 rfl rfl)
theorem dJ42_siftUpComparable_36 : decode cJ42_siftUpComparable 36 = .ok (.aload_n 2, 1) := dk_44 (dk_at dksJ42_siftUpComparable_1 13 rfl rfl)
theorem dJ42_siftUpComparable_37 : decode cJ42_siftUpComparable 37 = .ok (.iload_n 0, 1) := dk_26 (dk_at dksJ42_siftUpComparable_1 14 rfl rfl)
theorem dJ42_siftUpComparable_38 : decode cJ42_siftUpComparable 38 = .ok (.aload 5, 2) := dk_25 5 (dk_at dksJ42_siftUpComparable_1 15 rfl rfl)
theorem dJ42_siftUpComparable_40 : decode cJ42_siftUpComparable 40 = .ok (.aastore, 1) := dk_83 (dk_at dksJ42_siftUpComparable_1 17 rfl rfl)
theorem dJ42_siftUpComparable_41 : decode cJ42_siftUpComparable 41 = .ok (.iload 4, 2) := dk_21 4 (dk_at dksJ42_siftUpComparable_1 18 rfl rfl)
theorem dJ42_siftUpComparable_43 : decode cJ42_siftUpComparable 43 = .ok (.istore_n 0, 1) := dk_59 (dk_at dksJ42_siftUpComparable_1 20 rfl rfl)
theorem dJ42_siftUpComparable_44 : decode cJ42_siftUpComparable 44 = .ok (.goto (-39), 3) := dk_167 255 217 (dk_at dksJ42_siftUpComparable_1 21 rfl rfl)
theorem dJ42_siftUpComparable_47 : decode cJ42_siftUpComparable 47 = .ok (.aload_n 2, 1) := dk_44 (dk_at dksJ42_siftUpComparable_2 0 rfl rfl)
theorem dJ42_siftUpComparable_48 : decode cJ42_siftUpComparable 48 = .ok (.iload_n 0, 1) := dk_26 (dk_at dksJ42_siftUpComparable_2 1 rfl rfl)
theorem dJ42_siftUpComparable_49 : decode cJ42_siftUpComparable 49 = .ok (.aload_n 3, 1) := dk_45 (dk_at dksJ42_siftUpComparable_2 2 rfl rfl)
theorem dJ42_siftUpComparable_50 : decode cJ42_siftUpComparable 50 = .ok (.aastore, 1) := dk_83 (dk_at dksJ42_siftUpComparable_2 3 rfl rfl)
theorem dJ42_siftUpComparable_51 : decode cJ42_siftUpComparable 51 = .ok (.return_, 1) := dk_177 (dk_at dksJ42_siftUpComparable_2 4 rfl rfl)
abbrev cJ42_poll : ByteArray := prog_74_method_25_code
def yJ42_poll : MethodName := ⟨RJ42, "poll", "()Ljava/lang/Object;"⟩
def dkwJ42_poll_3 : List UInt8 := [43, 29, 25, 5, 184, 0, 129, 44, 176]
abbrev dktJ42_poll_3 : List UInt8 := dkwJ42_poll_3 ++ []
def dkwJ42_poll_2 : List UInt8 := [42, 180, 0, 21, 89, 58, 5, 199, 0, 14, 3, 25, 4, 43, 29, 184, 0, 125, 167, 0, 13, 3, 25, 4]
abbrev dktJ42_poll_2 : List UInt8 := dkwJ42_poll_2 ++ dktJ42_poll_3
def dkwJ42_poll_1 : List UInt8 := [42, 89, 180, 0, 58, 4, 100, 90, 181, 0, 58, 89, 62, 50, 58, 4, 43, 29, 1, 83, 29, 158, 0, 34]
abbrev dktJ42_poll_1 : List UInt8 := dkwJ42_poll_1 ++ dktJ42_poll_2
def dkwJ42_poll_0 : List UInt8 := [42, 180, 0, 17, 89, 76, 3, 50, 89, 77, 198, 0, 69, 42, 89, 180, 0, 93, 4, 96, 181, 0, 93, 43]
abbrev dktJ42_poll_0 : List UInt8 := dkwJ42_poll_0 ++ dktJ42_poll_1
theorem dksJ42_poll_0 : cJ42_poll.data.toList.drop 0 = dktJ42_poll_0 := by decide +kernel
theorem dksJ42_poll_1 : cJ42_poll.data.toList.drop 24 = dktJ42_poll_1 := dk_seg dksJ42_poll_0 24 rfl rfl
theorem dksJ42_poll_2 : cJ42_poll.data.toList.drop 48 = dktJ42_poll_2 := dk_seg dksJ42_poll_1 24 rfl rfl
theorem dksJ42_poll_3 : cJ42_poll.data.toList.drop 72 = dktJ42_poll_3 := dk_seg dksJ42_poll_2 24 rfl rfl
theorem dJ42_poll_0 : decode cJ42_poll 0 = .ok (.aload_n 0, 1) := dk_42 (dk_at dksJ42_poll_0 0 rfl rfl)
theorem dJ42_poll_1 : decode cJ42_poll 1 = .ok (.getfield 17, 3) := dk_180 0 17 (dk_at dksJ42_poll_0 1 rfl rfl)
theorem dJ42_poll_4 : decode cJ42_poll 4 = .ok (.dup, 1) := dk_89 (dk_at dksJ42_poll_0 4 rfl rfl)
theorem dJ42_poll_5 : decode cJ42_poll 5 = .ok (.astore_n 1, 1) := dk_76 (dk_at dksJ42_poll_0 5 rfl rfl)
theorem dJ42_poll_6 : decode cJ42_poll 6 = .ok (.iconst 0, 1) := dk_3 (dk_at dksJ42_poll_0 6 rfl rfl)
theorem dJ42_poll_7 : decode cJ42_poll 7 = .ok (.aaload, 1) := dk_50 (dk_at dksJ42_poll_0 7 rfl rfl)
theorem dJ42_poll_8 : decode cJ42_poll 8 = .ok (.dup, 1) := dk_89 (dk_at dksJ42_poll_0 8 rfl rfl)
theorem dJ42_poll_9 : decode cJ42_poll 9 = .ok (.astore_n 2, 1) := dk_77 (dk_at dksJ42_poll_0 9 rfl rfl)
theorem dJ42_poll_10 : decode cJ42_poll 10 = .ok (.ifnull 69, 3) := dk_198 0 69 (dk_at dksJ42_poll_0 10 rfl rfl)
theorem dJ42_poll_13 : decode cJ42_poll 13 = .ok (.aload_n 0, 1) := dk_42 (dk_at dksJ42_poll_0 13 rfl rfl)
theorem dJ42_poll_14 : decode cJ42_poll 14 = .ok (.dup, 1) := dk_89 (dk_at dksJ42_poll_0 14 rfl rfl)
theorem dJ42_poll_15 : decode cJ42_poll 15 = .ok (.getfield 93, 3) := dk_180 0 93 (dk_at dksJ42_poll_0 15 rfl rfl)
theorem dJ42_poll_18 : decode cJ42_poll 18 = .ok (.iconst 1, 1) := dk_4 (dk_at dksJ42_poll_0 18 rfl rfl)
theorem dJ42_poll_19 : decode cJ42_poll 19 = .ok (.iadd, 1) := dk_96 (dk_at dksJ42_poll_0 19 rfl rfl)
theorem dJ42_poll_20 : decode cJ42_poll 20 = .ok (.putfield 93, 3) := dk_181 0 93 (dk_at dksJ42_poll_0 20 rfl rfl)
theorem dJ42_poll_23 : decode cJ42_poll 23 = .ok (.aload_n 1, 1) := dk_43 (dk_at dksJ42_poll_0 23 rfl rfl)
theorem dJ42_poll_24 : decode cJ42_poll 24 = .ok (.aload_n 0, 1) := dk_42 (dk_at dksJ42_poll_1 0 rfl rfl)
theorem dJ42_poll_25 : decode cJ42_poll 25 = .ok (.dup, 1) := dk_89 (dk_at dksJ42_poll_1 1 rfl rfl)
theorem dJ42_poll_26 : decode cJ42_poll 26 = .ok (.getfield 58, 3) := dk_180 0 58 (dk_at dksJ42_poll_1 2 rfl rfl)
theorem dJ42_poll_29 : decode cJ42_poll 29 = .ok (.iconst 1, 1) := dk_4 (dk_at dksJ42_poll_1 5 rfl rfl)
theorem dJ42_poll_30 : decode cJ42_poll 30 = .ok (.isub, 1) := dk_100 (dk_at dksJ42_poll_1 6 rfl rfl)
theorem dJ42_poll_31 : decode cJ42_poll 31 = .ok (.dup_x1, 1) := dk_90 (dk_at dksJ42_poll_1 7 rfl rfl)
theorem dJ42_poll_32 : decode cJ42_poll 32 = .ok (.putfield 58, 3) := dk_181 0 58 (dk_at dksJ42_poll_1 8 rfl rfl)
theorem dJ42_poll_35 : decode cJ42_poll 35 = .ok (.dup, 1) := dk_89 (dk_at dksJ42_poll_1 11 rfl rfl)
theorem dJ42_poll_36 : decode cJ42_poll 36 = .ok (.istore_n 3, 1) := dk_62 (dk_at dksJ42_poll_1 12 rfl rfl)
theorem dJ42_poll_37 : decode cJ42_poll 37 = .ok (.aaload, 1) := dk_50 (dk_at dksJ42_poll_1 13 rfl rfl)
theorem dJ42_poll_38 : decode cJ42_poll 38 = .ok (.astore 4, 2) := dk_58 4 (dk_at dksJ42_poll_1 14 rfl rfl)
theorem dJ42_poll_40 : decode cJ42_poll 40 = .ok (.aload_n 1, 1) := dk_43 (dk_at dksJ42_poll_1 16 rfl rfl)
theorem dJ42_poll_41 : decode cJ42_poll 41 = .ok (.iload_n 3, 1) := dk_29 (dk_at dksJ42_poll_1 17 rfl rfl)
theorem dJ42_poll_42 : decode cJ42_poll 42 = .ok (.aconst_null, 1) := dk_1 (dk_at dksJ42_poll_1 18 rfl rfl)
theorem dJ42_poll_43 : decode cJ42_poll 43 = .ok (.aastore, 1) := dk_83 (dk_at dksJ42_poll_1 19 rfl rfl)
theorem dJ42_poll_44 : decode cJ42_poll 44 = .ok (.iload_n 3, 1) := dk_29 (dk_at dksJ42_poll_1 20 rfl rfl)
theorem dJ42_poll_45 : decode cJ42_poll 45 = .ok (.ifCond .le 34, 3) := dk_158 0 34 (dk_at dksJ42_poll_1 21 rfl rfl)
theorem dJ42_poll_48 : decode cJ42_poll 48 = .ok (.aload_n 0, 1) := dk_42 (dk_at dksJ42_poll_2 0 rfl rfl)
theorem dJ42_poll_49 : decode cJ42_poll 49 = .ok (.getfield 21, 3) := dk_180 0 21 (dk_at dksJ42_poll_2 1 rfl rfl)
theorem dJ42_poll_52 : decode cJ42_poll 52 = .ok (.dup, 1) := dk_89 (dk_at dksJ42_poll_2 4 rfl rfl)
theorem dJ42_poll_53 : decode cJ42_poll 53 = .ok (.astore 5, 2) := dk_58 5 (dk_at dksJ42_poll_2 5 rfl rfl)
theorem dJ42_poll_55 : decode cJ42_poll 55 = .ok (.ifnonnull 14, 3) := dk_199 0 14 (dk_at dksJ42_poll_2 7 rfl rfl)
theorem dJ42_poll_58 : decode cJ42_poll 58 = .ok (.iconst 0, 1) := dk_3 (dk_at dksJ42_poll_2 10 rfl rfl)
theorem dJ42_poll_59 : decode cJ42_poll 59 = .ok (.aload 4, 2) := dk_25 4 (dk_at dksJ42_poll_2 11 rfl rfl)
theorem dJ42_poll_61 : decode cJ42_poll 61 = .ok (.aload_n 1, 1) := dk_43 (dk_at dksJ42_poll_2 13 rfl rfl)
theorem dJ42_poll_62 : decode cJ42_poll 62 = .ok (.iload_n 3, 1) := dk_29 (dk_at dksJ42_poll_2 14 rfl rfl)
theorem dJ42_poll_63 : decode cJ42_poll 63 = .ok (.invokestatic 125, 3) := dk_184 0 125 (dk_at dksJ42_poll_2 15 rfl rfl)
theorem dJ42_poll_66 : decode cJ42_poll 66 = .ok (.goto 13, 3) := dk_167 0 13 (dk_at dksJ42_poll_2 18 rfl rfl)
theorem dJ42_poll_69 : decode cJ42_poll 69 = .ok (.iconst 0, 1) := dk_3 (dk_at dksJ42_poll_2 21 rfl rfl)
theorem dJ42_poll_70 : decode cJ42_poll 70 = .ok (.aload 4, 2) := dk_25 4 (dk_at dksJ42_poll_2 22 rfl rfl)
theorem dJ42_poll_72 : decode cJ42_poll 72 = .ok (.aload_n 1, 1) := dk_43 (dk_at dksJ42_poll_3 0 rfl rfl)
theorem dJ42_poll_73 : decode cJ42_poll 73 = .ok (.iload_n 3, 1) := dk_29 (dk_at dksJ42_poll_3 1 rfl rfl)
theorem dJ42_poll_74 : decode cJ42_poll 74 = .ok (.aload 5, 2) := dk_25 5 (dk_at dksJ42_poll_3 2 rfl rfl)
theorem dJ42_poll_76 : decode cJ42_poll 76 = .ok (.invokestatic 129, 3) := dk_184 0 129 (dk_at dksJ42_poll_3 4 rfl rfl)
theorem dJ42_poll_79 : decode cJ42_poll 79 = .ok (.aload_n 2, 1) := dk_44 (dk_at dksJ42_poll_3 7 rfl rfl)
theorem dJ42_poll_80 : decode cJ42_poll 80 = .ok (.areturn, 1) := dk_176 (dk_at dksJ42_poll_3 8 rfl rfl)
abbrev cJ42_siftDownComparable : ByteArray := prog_74_method_31_code
def yJ42_siftDownComparable : MethodName := ⟨RJ42, "siftDownComparable", "(ILjava/lang/Object;[Ljava/lang/Object;I)V"⟩
def dkwJ42_siftDownComparable_4 : List UInt8 := [25, 4, 83, 177]
abbrev dktJ42_siftDownComparable_4 : List UInt8 := dkwJ42_siftDownComparable_4 ++ []
def dkwJ42_siftDownComparable_3 : List UInt8 := [185, 0, 146, 2, 0, 157, 0, 6, 167, 0, 14, 44, 26, 25, 7, 83, 21, 6, 59, 167, 255, 176, 44, 26]
abbrev dktJ42_siftDownComparable_3 : List UInt8 := dkwJ42_siftDownComparable_3 ++ dktJ42_siftDownComparable_4
def dkwJ42_siftDownComparable_2 : List UInt8 := [21, 8, 50, 185, 0, 146, 2, 0, 158, 0, 12, 44, 21, 8, 89, 54, 6, 50, 58, 7, 25, 4, 25, 7]
abbrev dktJ42_siftDownComparable_2 : List UInt8 := dkwJ42_siftDownComparable_2 ++ dktJ42_siftDownComparable_3
def dkwJ42_siftDownComparable_1 : List UInt8 := [44, 21, 6, 50, 58, 7, 21, 6, 4, 96, 54, 8, 21, 8, 29, 162, 0, 29, 25, 7, 192, 0, 144, 44]
abbrev dktJ42_siftDownComparable_1 : List UInt8 := dkwJ42_siftDownComparable_1 ++ dktJ42_siftDownComparable_2
def dkwJ42_siftDownComparable_0 : List UInt8 := [43, 192, 0, 144, 58, 4, 29, 4, 124, 54, 5, 26, 21, 5, 162, 0, 80, 26, 4, 120, 4, 96, 54, 6]
abbrev dktJ42_siftDownComparable_0 : List UInt8 := dkwJ42_siftDownComparable_0 ++ dktJ42_siftDownComparable_1
theorem dksJ42_siftDownComparable_0 : cJ42_siftDownComparable.data.toList.drop 0 = dktJ42_siftDownComparable_0 := by decide +kernel
theorem dksJ42_siftDownComparable_1 : cJ42_siftDownComparable.data.toList.drop 24 = dktJ42_siftDownComparable_1 := dk_seg dksJ42_siftDownComparable_0 24 rfl rfl
theorem dksJ42_siftDownComparable_2 : cJ42_siftDownComparable.data.toList.drop 48 = dktJ42_siftDownComparable_2 := dk_seg dksJ42_siftDownComparable_1 24 rfl rfl
theorem dksJ42_siftDownComparable_3 : cJ42_siftDownComparable.data.toList.drop 72 = dktJ42_siftDownComparable_3 := dk_seg dksJ42_siftDownComparable_2 24 rfl rfl
theorem dksJ42_siftDownComparable_4 : cJ42_siftDownComparable.data.toList.drop 96 = dktJ42_siftDownComparable_4 := dk_seg dksJ42_siftDownComparable_3 24 rfl rfl
theorem dJ42_siftDownComparable_0 : decode cJ42_siftDownComparable 0 = .ok (.aload_n 1, 1) := dk_43 (dk_at dksJ42_siftDownComparable_0 0 rfl rfl)
theorem dJ42_siftDownComparable_1 : decode cJ42_siftDownComparable 1 = .ok (.checkcast 144, 3) := dk_192 0 144 (dk_at dksJ42_siftDownComparable_0 1 rfl rfl)
theorem dJ42_siftDownComparable_4 : decode cJ42_siftDownComparable 4 = .ok (.astore 4, 2) := dk_58 4 (dk_at dksJ42_siftDownComparable_0 4 rfl rfl)
theorem dJ42_siftDownComparable_6 : decode cJ42_siftDownComparable 6 = .ok (.iload_n 3, 1) := dk_29 (dk_at dksJ42_siftDownComparable_0 6 rfl rfl)
theorem dJ42_siftDownComparable_7 : decode cJ42_siftDownComparable 7 = .ok (.iconst 1, 1) := dk_4 (dk_at dksJ42_siftDownComparable_0 7 rfl rfl)
theorem dJ42_siftDownComparable_8 : decode cJ42_siftDownComparable 8 = .ok (.iushr, 1) := dk_124 (dk_at dksJ42_siftDownComparable_0 8 rfl rfl)
theorem dJ42_siftDownComparable_9 : decode cJ42_siftDownComparable 9 = .ok (.istore 5, 2) := dk_54 5 (dk_at dksJ42_siftDownComparable_0 9 rfl rfl)
theorem dJ42_siftDownComparable_11 : decode cJ42_siftDownComparable 11 = .ok (.iload_n 0, 1) := dk_26 (dk_at dksJ42_siftDownComparable_0 11 rfl rfl)
theorem dJ42_siftDownComparable_12 : decode cJ42_siftDownComparable 12 = .ok (.iload 5, 2) := dk_21 5 (dk_at dksJ42_siftDownComparable_0 12 rfl rfl)
theorem dJ42_siftDownComparable_14 : decode cJ42_siftDownComparable 14 = .ok (.if_icmp .ge 80, 3) := dk_162 0 80 (dk_at dksJ42_siftDownComparable_0 14 rfl rfl)
theorem dJ42_siftDownComparable_17 : decode cJ42_siftDownComparable 17 = .ok (.iload_n 0, 1) := dk_26 (dk_at dksJ42_siftDownComparable_0 17 rfl rfl)
theorem dJ42_siftDownComparable_18 : decode cJ42_siftDownComparable 18 = .ok (.iconst 1, 1) := dk_4 (dk_at dksJ42_siftDownComparable_0 18 rfl rfl)
theorem dJ42_siftDownComparable_19 : decode cJ42_siftDownComparable 19 = .ok (.ishl, 1) := dk_120 (dk_at dksJ42_siftDownComparable_0 19 rfl rfl)
theorem dJ42_siftDownComparable_20 : decode cJ42_siftDownComparable 20 = .ok (.iconst 1, 1) := dk_4 (dk_at dksJ42_siftDownComparable_0 20 rfl rfl)
theorem dJ42_siftDownComparable_21 : decode cJ42_siftDownComparable 21 = .ok (.iadd, 1) := dk_96 (dk_at dksJ42_siftDownComparable_0 21 rfl rfl)
theorem dJ42_siftDownComparable_22 : decode cJ42_siftDownComparable 22 = .ok (.istore 6, 2) := dk_54 6 (dk_at dksJ42_siftDownComparable_0 22 rfl rfl)
theorem dJ42_siftDownComparable_24 : decode cJ42_siftDownComparable 24 = .ok (.aload_n 2, 1) := dk_44 (dk_at dksJ42_siftDownComparable_1 0 rfl rfl)
theorem dJ42_siftDownComparable_25 : decode cJ42_siftDownComparable 25 = .ok (.iload 6, 2) := dk_21 6 (dk_at dksJ42_siftDownComparable_1 1 rfl rfl)
theorem dJ42_siftDownComparable_27 : decode cJ42_siftDownComparable 27 = .ok (.aaload, 1) := dk_50 (dk_at dksJ42_siftDownComparable_1 3 rfl rfl)
theorem dJ42_siftDownComparable_28 : decode cJ42_siftDownComparable 28 = .ok (.astore 7, 2) := dk_58 7 (dk_at dksJ42_siftDownComparable_1 4 rfl rfl)
theorem dJ42_siftDownComparable_30 : decode cJ42_siftDownComparable 30 = .ok (.iload 6, 2) := dk_21 6 (dk_at dksJ42_siftDownComparable_1 6 rfl rfl)
theorem dJ42_siftDownComparable_32 : decode cJ42_siftDownComparable 32 = .ok (.iconst 1, 1) := dk_4 (dk_at dksJ42_siftDownComparable_1 8 rfl rfl)
theorem dJ42_siftDownComparable_33 : decode cJ42_siftDownComparable 33 = .ok (.iadd, 1) := dk_96 (dk_at dksJ42_siftDownComparable_1 9 rfl rfl)
theorem dJ42_siftDownComparable_34 : decode cJ42_siftDownComparable 34 = .ok (.istore 8, 2) := dk_54 8 (dk_at dksJ42_siftDownComparable_1 10 rfl rfl)
theorem dJ42_siftDownComparable_36 : decode cJ42_siftDownComparable 36 = .ok (.iload 8, 2) := dk_21 8 (dk_at dksJ42_siftDownComparable_1 12 rfl rfl)
theorem dJ42_siftDownComparable_38 : decode cJ42_siftDownComparable 38 = .ok (.iload_n 3, 1) := dk_29 (dk_at dksJ42_siftDownComparable_1 14 rfl rfl)
theorem dJ42_siftDownComparable_39 : decode cJ42_siftDownComparable 39 = .ok (.if_icmp .ge 29, 3) := dk_162 0 29 (dk_at dksJ42_siftDownComparable_1 15 rfl rfl)
theorem dJ42_siftDownComparable_42 : decode cJ42_siftDownComparable 42 = .ok (.aload 7, 2) := dk_25 7 (dk_at dksJ42_siftDownComparable_1 18 rfl rfl)
theorem dJ42_siftDownComparable_44 : decode cJ42_siftDownComparable 44 = .ok (.checkcast 144, 3) := dk_192 0 144 (dk_at dksJ42_siftDownComparable_1 20 rfl rfl)
theorem dJ42_siftDownComparable_47 : decode cJ42_siftDownComparable 47 = .ok (.aload_n 2, 1) := dk_44 (dk_at dksJ42_siftDownComparable_1 23 rfl rfl)
theorem dJ42_siftDownComparable_48 : decode cJ42_siftDownComparable 48 = .ok (.iload 8, 2) := dk_21 8 (dk_at dksJ42_siftDownComparable_2 0 rfl rfl)
theorem dJ42_siftDownComparable_50 : decode cJ42_siftDownComparable 50 = .ok (.aaload, 1) := dk_50 (dk_at dksJ42_siftDownComparable_2 2 rfl rfl)
theorem dJ42_siftDownComparable_51 : decode cJ42_siftDownComparable 51 = .ok (.invokeinterface 146 2, 5) := by decide +kernel
theorem dJ42_siftDownComparable_56 : decode cJ42_siftDownComparable 56 = .ok (.ifCond .le 12, 3) := dk_158 0 12 (dk_at dksJ42_siftDownComparable_2 8 rfl rfl)
theorem dJ42_siftDownComparable_59 : decode cJ42_siftDownComparable 59 = .ok (.aload_n 2, 1) := dk_44 (dk_at dksJ42_siftDownComparable_2 11 rfl rfl)
theorem dJ42_siftDownComparable_60 : decode cJ42_siftDownComparable 60 = .ok (.iload 8, 2) := dk_21 8 (dk_at dksJ42_siftDownComparable_2 12 rfl rfl)
theorem dJ42_siftDownComparable_62 : decode cJ42_siftDownComparable 62 = .ok (.dup, 1) := dk_89 (dk_at dksJ42_siftDownComparable_2 14 rfl rfl)
theorem dJ42_siftDownComparable_63 : decode cJ42_siftDownComparable 63 = .ok (.istore 6, 2) := dk_54 6 (dk_at dksJ42_siftDownComparable_2 15 rfl rfl)
theorem dJ42_siftDownComparable_65 : decode cJ42_siftDownComparable 65 = .ok (.aaload, 1) := dk_50 (dk_at dksJ42_siftDownComparable_2 17 rfl rfl)
theorem dJ42_siftDownComparable_66 : decode cJ42_siftDownComparable 66 = .ok (.astore 7, 2) := dk_58 7 (dk_at dksJ42_siftDownComparable_2 18 rfl rfl)
theorem dJ42_siftDownComparable_68 : decode cJ42_siftDownComparable 68 = .ok (.aload 4, 2) := dk_25 4 (dk_at dksJ42_siftDownComparable_2 20 rfl rfl)
theorem dJ42_siftDownComparable_70 : decode cJ42_siftDownComparable 70 = .ok (.aload 7, 2) := dk_25 7 (dk_at dksJ42_siftDownComparable_2 22 rfl rfl)
theorem dJ42_siftDownComparable_72 : decode cJ42_siftDownComparable 72 = .ok (.invokeinterface 146 2, 5) := by decide +kernel
theorem dJ42_siftDownComparable_77 : decode cJ42_siftDownComparable 77 = .ok (.ifCond .gt 6, 3) := dk_157 0 6 (dk_at dksJ42_siftDownComparable_3 5 rfl rfl)
theorem dJ42_siftDownComparable_80 : decode cJ42_siftDownComparable 80 = .ok (.goto 14, 3) := dk_167 0 14 (dk_at dksJ42_siftDownComparable_3 8 rfl rfl)
theorem dJ42_siftDownComparable_83 : decode cJ42_siftDownComparable 83 = .ok (.aload_n 2, 1) := dk_44 (dk_at dksJ42_siftDownComparable_3 11 rfl rfl)
theorem dJ42_siftDownComparable_84 : decode cJ42_siftDownComparable 84 = .ok (.iload_n 0, 1) := dk_26 (dk_at dksJ42_siftDownComparable_3 12 rfl rfl)
theorem dJ42_siftDownComparable_85 : decode cJ42_siftDownComparable 85 = .ok (.aload 7, 2) := dk_25 7 (dk_at dksJ42_siftDownComparable_3 13 rfl rfl)
theorem dJ42_siftDownComparable_87 : decode cJ42_siftDownComparable 87 = .ok (.aastore, 1) := dk_83 (dk_at dksJ42_siftDownComparable_3 15 rfl rfl)
theorem dJ42_siftDownComparable_88 : decode cJ42_siftDownComparable 88 = .ok (.iload 6, 2) := dk_21 6 (dk_at dksJ42_siftDownComparable_3 16 rfl rfl)
theorem dJ42_siftDownComparable_90 : decode cJ42_siftDownComparable 90 = .ok (.istore_n 0, 1) := dk_59 (dk_at dksJ42_siftDownComparable_3 18 rfl rfl)
theorem dJ42_siftDownComparable_91 : decode cJ42_siftDownComparable 91 = .ok (.goto (-80), 3) := dk_167 255 176 (dk_at dksJ42_siftDownComparable_3 19 rfl rfl)
theorem dJ42_siftDownComparable_94 : decode cJ42_siftDownComparable 94 = .ok (.aload_n 2, 1) := dk_44 (dk_at dksJ42_siftDownComparable_3 22 rfl rfl)
theorem dJ42_siftDownComparable_95 : decode cJ42_siftDownComparable 95 = .ok (.iload_n 0, 1) := dk_26 (dk_at dksJ42_siftDownComparable_3 23 rfl rfl)
theorem dJ42_siftDownComparable_96 : decode cJ42_siftDownComparable 96 = .ok (.aload 4, 2) := dk_25 4 (dk_at dksJ42_siftDownComparable_4 0 rfl rfl)
theorem dJ42_siftDownComparable_98 : decode cJ42_siftDownComparable 98 = .ok (.aastore, 1) := dk_83 (dk_at dksJ42_siftDownComparable_4 2 rfl rfl)
theorem dJ42_siftDownComparable_99 : decode cJ42_siftDownComparable 99 = .ok (.return_, 1) := dk_177 (dk_at dksJ42_siftDownComparable_4 3 rfl rfl)
abbrev cJ42_siftDownUsingComparator : ByteArray := prog_74_method_32_code
def yJ42_siftDownUsingComparator : MethodName := ⟨RJ42, "siftDownUsingComparator", "(ILjava/lang/Object;[Ljava/lang/Object;ILjava/util/Comparator;)V"⟩
def dkwJ42_siftDownUsingComparator_4 : List UInt8 := [43, 83, 177]
abbrev dktJ42_siftDownUsingComparator_4 : List UInt8 := dkwJ42_siftDownUsingComparator_4 ++ []
def dkwJ42_siftDownUsingComparator_3 : List UInt8 := [185, 0, 149, 3, 0, 157, 0, 6, 167, 0, 14, 44, 26, 25, 7, 83, 21, 6, 59, 167, 255, 176, 44, 26]
abbrev dktJ42_siftDownUsingComparator_3 : List UInt8 := dkwJ42_siftDownUsingComparator_3 ++ dktJ42_siftDownUsingComparator_4
def dkwJ42_siftDownUsingComparator_2 : List UInt8 := [185, 0, 149, 3, 0, 158, 0, 12, 44, 21, 8, 89, 54, 6, 50, 58, 7, 25, 4, 43, 25, 7]
abbrev dktJ42_siftDownUsingComparator_2 : List UInt8 := dkwJ42_siftDownUsingComparator_2 ++ dktJ42_siftDownUsingComparator_3
def dkwJ42_siftDownUsingComparator_1 : List UInt8 := [21, 6, 4, 96, 54, 8, 21, 8, 29, 162, 0, 28, 25, 4, 25, 7, 44, 21, 8, 50]
abbrev dktJ42_siftDownUsingComparator_1 : List UInt8 := dkwJ42_siftDownUsingComparator_1 ++ dktJ42_siftDownUsingComparator_2
def dkwJ42_siftDownUsingComparator_0 : List UInt8 := [29, 4, 124, 54, 5, 26, 21, 5, 162, 0, 80, 26, 4, 120, 4, 96, 54, 6, 44, 21, 6, 50, 58, 7]
abbrev dktJ42_siftDownUsingComparator_0 : List UInt8 := dkwJ42_siftDownUsingComparator_0 ++ dktJ42_siftDownUsingComparator_1
theorem dksJ42_siftDownUsingComparator_0 : cJ42_siftDownUsingComparator.data.toList.drop 0 = dktJ42_siftDownUsingComparator_0 := by decide +kernel
theorem dksJ42_siftDownUsingComparator_1 : cJ42_siftDownUsingComparator.data.toList.drop 24 = dktJ42_siftDownUsingComparator_1 := dk_seg dksJ42_siftDownUsingComparator_0 24 rfl rfl
theorem dksJ42_siftDownUsingComparator_2 : cJ42_siftDownUsingComparator.data.toList.drop 44 = dktJ42_siftDownUsingComparator_2 := dk_seg dksJ42_siftDownUsingComparator_1 20 rfl rfl
theorem dksJ42_siftDownUsingComparator_3 : cJ42_siftDownUsingComparator.data.toList.drop 66 = dktJ42_siftDownUsingComparator_3 := dk_seg dksJ42_siftDownUsingComparator_2 22 rfl rfl
theorem dksJ42_siftDownUsingComparator_4 : cJ42_siftDownUsingComparator.data.toList.drop 90 = dktJ42_siftDownUsingComparator_4 := dk_seg dksJ42_siftDownUsingComparator_3 24 rfl rfl
theorem dJ42_siftDownUsingComparator_0 : decode cJ42_siftDownUsingComparator 0 = .ok (.iload_n 3, 1) := dk_29 (dk_at dksJ42_siftDownUsingComparator_0 0 rfl rfl)
theorem dJ42_siftDownUsingComparator_1 : decode cJ42_siftDownUsingComparator 1 = .ok (.iconst 1, 1) := dk_4 (dk_at dksJ42_siftDownUsingComparator_0 1 rfl rfl)
theorem dJ42_siftDownUsingComparator_2 : decode cJ42_siftDownUsingComparator 2 = .ok (.iushr, 1) := dk_124 (dk_at dksJ42_siftDownUsingComparator_0 2 rfl rfl)
theorem dJ42_siftDownUsingComparator_3 : decode cJ42_siftDownUsingComparator 3 = .ok (.istore 5, 2) := dk_54 5 (dk_at dksJ42_siftDownUsingComparator_0 3 rfl rfl)
theorem dJ42_siftDownUsingComparator_5 : decode cJ42_siftDownUsingComparator 5 = .ok (.iload_n 0, 1) := dk_26 (dk_at dksJ42_siftDownUsingComparator_0 5 rfl rfl)
theorem dJ42_siftDownUsingComparator_6 : decode cJ42_siftDownUsingComparator 6 = .ok (.iload 5, 2) := dk_21 5 (dk_at dksJ42_siftDownUsingComparator_0 6 rfl rfl)
theorem dJ42_siftDownUsingComparator_8 : decode cJ42_siftDownUsingComparator 8 = .ok (.if_icmp .ge 80, 3) := dk_162 0 80 (dk_at dksJ42_siftDownUsingComparator_0 8 rfl rfl)
theorem dJ42_siftDownUsingComparator_11 : decode cJ42_siftDownUsingComparator 11 = .ok (.iload_n 0, 1) := dk_26 (dk_at dksJ42_siftDownUsingComparator_0 11 rfl rfl)
theorem dJ42_siftDownUsingComparator_12 : decode cJ42_siftDownUsingComparator 12 = .ok (.iconst 1, 1) := dk_4 (dk_at dksJ42_siftDownUsingComparator_0 12 rfl rfl)
theorem dJ42_siftDownUsingComparator_13 : decode cJ42_siftDownUsingComparator 13 = .ok (.ishl, 1) := dk_120 (dk_at dksJ42_siftDownUsingComparator_0 13 rfl rfl)
theorem dJ42_siftDownUsingComparator_14 : decode cJ42_siftDownUsingComparator 14 = .ok (.iconst 1, 1) := dk_4 (dk_at dksJ42_siftDownUsingComparator_0 14 rfl rfl)
theorem dJ42_siftDownUsingComparator_15 : decode cJ42_siftDownUsingComparator 15 = .ok (.iadd, 1) := dk_96 (dk_at dksJ42_siftDownUsingComparator_0 15 rfl rfl)
theorem dJ42_siftDownUsingComparator_16 : decode cJ42_siftDownUsingComparator 16 = .ok (.istore 6, 2) := dk_54 6 (dk_at dksJ42_siftDownUsingComparator_0 16 rfl rfl)
theorem dJ42_siftDownUsingComparator_18 : decode cJ42_siftDownUsingComparator 18 = .ok (.aload_n 2, 1) := dk_44 (dk_at dksJ42_siftDownUsingComparator_0 18 rfl rfl)
theorem dJ42_siftDownUsingComparator_19 : decode cJ42_siftDownUsingComparator 19 = .ok (.iload 6, 2) := dk_21 6 (dk_at dksJ42_siftDownUsingComparator_0 19 rfl rfl)
theorem dJ42_siftDownUsingComparator_21 : decode cJ42_siftDownUsingComparator 21 = .ok (.aaload, 1) := dk_50 (dk_at dksJ42_siftDownUsingComparator_0 21 rfl rfl)
theorem dJ42_siftDownUsingComparator_22 : decode cJ42_siftDownUsingComparator 22 = .ok (.astore 7, 2) := dk_58 7 (dk_at dksJ42_siftDownUsingComparator_0 22 rfl rfl)
theorem dJ42_siftDownUsingComparator_24 : decode cJ42_siftDownUsingComparator 24 = .ok (.iload 6, 2) := dk_21 6 (dk_at dksJ42_siftDownUsingComparator_1 0 rfl rfl)
theorem dJ42_siftDownUsingComparator_26 : decode cJ42_siftDownUsingComparator 26 = .ok (.iconst 1, 1) := dk_4 (dk_at dksJ42_siftDownUsingComparator_1 2 rfl rfl)
theorem dJ42_siftDownUsingComparator_27 : decode cJ42_siftDownUsingComparator 27 = .ok (.iadd, 1) := dk_96 (dk_at dksJ42_siftDownUsingComparator_1 3 rfl rfl)
theorem dJ42_siftDownUsingComparator_28 : decode cJ42_siftDownUsingComparator 28 = .ok (.istore 8, 2) := dk_54 8 (dk_at dksJ42_siftDownUsingComparator_1 4 rfl rfl)
theorem dJ42_siftDownUsingComparator_30 : decode cJ42_siftDownUsingComparator 30 = .ok (.iload 8, 2) := dk_21 8 (dk_at dksJ42_siftDownUsingComparator_1 6 rfl rfl)
theorem dJ42_siftDownUsingComparator_32 : decode cJ42_siftDownUsingComparator 32 = .ok (.iload_n 3, 1) := dk_29 (dk_at dksJ42_siftDownUsingComparator_1 8 rfl rfl)
theorem dJ42_siftDownUsingComparator_33 : decode cJ42_siftDownUsingComparator 33 = .ok (.if_icmp .ge 28, 3) := dk_162 0 28 (dk_at dksJ42_siftDownUsingComparator_1 9 rfl rfl)
theorem dJ42_siftDownUsingComparator_36 : decode cJ42_siftDownUsingComparator 36 = .ok (.aload 4, 2) := dk_25 4 (dk_at dksJ42_siftDownUsingComparator_1 12 rfl rfl)
theorem dJ42_siftDownUsingComparator_38 : decode cJ42_siftDownUsingComparator 38 = .ok (.aload 7, 2) := dk_25 7 (dk_at dksJ42_siftDownUsingComparator_1 14 rfl rfl)
theorem dJ42_siftDownUsingComparator_40 : decode cJ42_siftDownUsingComparator 40 = .ok (.aload_n 2, 1) := dk_44 (dk_at dksJ42_siftDownUsingComparator_1 16 rfl rfl)
theorem dJ42_siftDownUsingComparator_41 : decode cJ42_siftDownUsingComparator 41 = .ok (.iload 8, 2) := dk_21 8 (dk_at dksJ42_siftDownUsingComparator_1 17 rfl rfl)
theorem dJ42_siftDownUsingComparator_43 : decode cJ42_siftDownUsingComparator 43 = .ok (.aaload, 1) := dk_50 (dk_at dksJ42_siftDownUsingComparator_1 19 rfl rfl)
theorem dJ42_siftDownUsingComparator_44 : decode cJ42_siftDownUsingComparator 44 = .ok (.invokeinterface 149 3, 5) := by decide +kernel
theorem dJ42_siftDownUsingComparator_49 : decode cJ42_siftDownUsingComparator 49 = .ok (.ifCond .le 12, 3) := dk_158 0 12 (dk_at dksJ42_siftDownUsingComparator_2 5 rfl rfl)
theorem dJ42_siftDownUsingComparator_52 : decode cJ42_siftDownUsingComparator 52 = .ok (.aload_n 2, 1) := dk_44 (dk_at dksJ42_siftDownUsingComparator_2 8 rfl rfl)
theorem dJ42_siftDownUsingComparator_53 : decode cJ42_siftDownUsingComparator 53 = .ok (.iload 8, 2) := dk_21 8 (dk_at dksJ42_siftDownUsingComparator_2 9 rfl rfl)
theorem dJ42_siftDownUsingComparator_55 : decode cJ42_siftDownUsingComparator 55 = .ok (.dup, 1) := dk_89 (dk_at dksJ42_siftDownUsingComparator_2 11 rfl rfl)
theorem dJ42_siftDownUsingComparator_56 : decode cJ42_siftDownUsingComparator 56 = .ok (.istore 6, 2) := dk_54 6 (dk_at dksJ42_siftDownUsingComparator_2 12 rfl rfl)
theorem dJ42_siftDownUsingComparator_58 : decode cJ42_siftDownUsingComparator 58 = .ok (.aaload, 1) := dk_50 (dk_at dksJ42_siftDownUsingComparator_2 14 rfl rfl)
theorem dJ42_siftDownUsingComparator_59 : decode cJ42_siftDownUsingComparator 59 = .ok (.astore 7, 2) := dk_58 7 (dk_at dksJ42_siftDownUsingComparator_2 15 rfl rfl)
theorem dJ42_siftDownUsingComparator_61 : decode cJ42_siftDownUsingComparator 61 = .ok (.aload 4, 2) := dk_25 4 (dk_at dksJ42_siftDownUsingComparator_2 17 rfl rfl)
theorem dJ42_siftDownUsingComparator_63 : decode cJ42_siftDownUsingComparator 63 = .ok (.aload_n 1, 1) := dk_43 (dk_at dksJ42_siftDownUsingComparator_2 19 rfl rfl)
theorem dJ42_siftDownUsingComparator_64 : decode cJ42_siftDownUsingComparator 64 = .ok (.aload 7, 2) := dk_25 7 (dk_at dksJ42_siftDownUsingComparator_2 20 rfl rfl)
theorem dJ42_siftDownUsingComparator_66 : decode cJ42_siftDownUsingComparator 66 = .ok (.invokeinterface 149 3, 5) := by decide +kernel
theorem dJ42_siftDownUsingComparator_71 : decode cJ42_siftDownUsingComparator 71 = .ok (.ifCond .gt 6, 3) := dk_157 0 6 (dk_at dksJ42_siftDownUsingComparator_3 5 rfl rfl)
theorem dJ42_siftDownUsingComparator_74 : decode cJ42_siftDownUsingComparator 74 = .ok (.goto 14, 3) := dk_167 0 14 (dk_at dksJ42_siftDownUsingComparator_3 8 rfl rfl)
theorem dJ42_siftDownUsingComparator_77 : decode cJ42_siftDownUsingComparator 77 = .ok (.aload_n 2, 1) := dk_44 (dk_at dksJ42_siftDownUsingComparator_3 11 rfl rfl)
theorem dJ42_siftDownUsingComparator_78 : decode cJ42_siftDownUsingComparator 78 = .ok (.iload_n 0, 1) := dk_26 (dk_at dksJ42_siftDownUsingComparator_3 12 rfl rfl)
theorem dJ42_siftDownUsingComparator_79 : decode cJ42_siftDownUsingComparator 79 = .ok (.aload 7, 2) := dk_25 7 (dk_at dksJ42_siftDownUsingComparator_3 13 rfl rfl)
theorem dJ42_siftDownUsingComparator_81 : decode cJ42_siftDownUsingComparator 81 = .ok (.aastore, 1) := dk_83 (dk_at dksJ42_siftDownUsingComparator_3 15 rfl rfl)
theorem dJ42_siftDownUsingComparator_82 : decode cJ42_siftDownUsingComparator 82 = .ok (.iload 6, 2) := dk_21 6 (dk_at dksJ42_siftDownUsingComparator_3 16 rfl rfl)
theorem dJ42_siftDownUsingComparator_84 : decode cJ42_siftDownUsingComparator 84 = .ok (.istore_n 0, 1) := dk_59 (dk_at dksJ42_siftDownUsingComparator_3 18 rfl rfl)
theorem dJ42_siftDownUsingComparator_85 : decode cJ42_siftDownUsingComparator 85 = .ok (.goto (-80), 3) := dk_167 255 176 (dk_at dksJ42_siftDownUsingComparator_3 19 rfl rfl)
theorem dJ42_siftDownUsingComparator_88 : decode cJ42_siftDownUsingComparator 88 = .ok (.aload_n 2, 1) := dk_44 (dk_at dksJ42_siftDownUsingComparator_3 22 rfl rfl)
theorem dJ42_siftDownUsingComparator_89 : decode cJ42_siftDownUsingComparator 89 = .ok (.iload_n 0, 1) := dk_26 (dk_at dksJ42_siftDownUsingComparator_3 23 rfl rfl)
theorem dJ42_siftDownUsingComparator_90 : decode cJ42_siftDownUsingComparator 90 = .ok (.aload_n 1, 1) := dk_43 (dk_at dksJ42_siftDownUsingComparator_4 0 rfl rfl)
theorem dJ42_siftDownUsingComparator_91 : decode cJ42_siftDownUsingComparator 91 = .ok (.aastore, 1) := dk_83 (dk_at dksJ42_siftDownUsingComparator_4 1 rfl rfl)
theorem dJ42_siftDownUsingComparator_92 : decode cJ42_siftDownUsingComparator 92 = .ok (.return_, 1) := dk_177 (dk_at dksJ42_siftDownUsingComparator_4 2 rfl rfl)
abbrev cJ43_init : ByteArray := prog_26_method_2_code
def yJ43_init : MethodName := ⟨RJ43, "<init>", "(Ljava/lang/String;)V"⟩
def dkwJ43_init_0 : List UInt8 := [42, 43, 183, 0, 7, 177]
abbrev dktJ43_init_0 : List UInt8 := dkwJ43_init_0 ++ []
theorem dksJ43_init_0 : cJ43_init.data.toList.drop 0 = dktJ43_init_0 := by decide +kernel
theorem dJ43_init_0 : decode cJ43_init 0 = .ok (.aload_n 0, 1) := dk_42 (dk_at dksJ43_init_0 0 rfl rfl)
theorem dJ43_init_1 : decode cJ43_init 1 = .ok (.aload_n 1, 1) := dk_43 (dk_at dksJ43_init_0 1 rfl rfl)
theorem dJ43_init_2 : decode cJ43_init 2 = .ok (.invokespecial 7, 3) := dk_183 0 7 (dk_at dksJ43_init_0 2 rfl rfl)
theorem dJ43_init_5 : decode cJ43_init 5 = .ok (.return_, 1) := dk_177 (dk_at dksJ43_init_0 5 rfl rfl)
abbrev cJ43_init_2 : ByteArray := prog_26_method_1_code
def yJ43_init_2 : MethodName := ⟨RJ43, "<init>", "()V"⟩
theorem dJ43_init_2_0 : decode cJ43_init_2 0 = .ok (.aload_n 0, 1) := by decide +kernel
theorem dJ43_init_2_1 : decode cJ43_init_2 1 = .ok (.invokespecial 1, 3) := by decide +kernel
theorem dJ43_init_2_4 : decode cJ43_init_2 4 = .ok (.return_, 1) := by decide +kernel
abbrev cJ44_init : ByteArray := prog_20_method_2_code
def yJ44_init : MethodName := ⟨RJ44, "<init>", "(Ljava/lang/String;)V"⟩
def dkwJ44_init_0 : List UInt8 := [42, 43, 183, 0, 7, 177]
abbrev dktJ44_init_0 : List UInt8 := dkwJ44_init_0 ++ []
theorem dksJ44_init_0 : cJ44_init.data.toList.drop 0 = dktJ44_init_0 := by decide +kernel
theorem dJ44_init_0 : decode cJ44_init 0 = .ok (.aload_n 0, 1) := dk_42 (dk_at dksJ44_init_0 0 rfl rfl)
theorem dJ44_init_1 : decode cJ44_init 1 = .ok (.aload_n 1, 1) := dk_43 (dk_at dksJ44_init_0 1 rfl rfl)
theorem dJ44_init_2 : decode cJ44_init 2 = .ok (.invokespecial 7, 3) := dk_183 0 7 (dk_at dksJ44_init_0 2 rfl rfl)
theorem dJ44_init_5 : decode cJ44_init 5 = .ok (.return_, 1) := dk_177 (dk_at dksJ44_init_0 5 rfl rfl)
abbrev cJ44_init_2 : ByteArray := prog_20_method_3_code
def yJ44_init_2 : MethodName := ⟨RJ44, "<init>", "(I)V"⟩
def dkwJ44_init_2_0 : List UInt8 := [42, 187, 0, 10, 89, 183, 0, 12, 18, 13, 182, 0, 15, 27, 182, 0, 19, 182, 0, 22, 183, 0, 7, 177]
abbrev dktJ44_init_2_0 : List UInt8 := dkwJ44_init_2_0 ++ []
theorem dksJ44_init_2_0 : cJ44_init_2.data.toList.drop 0 = dktJ44_init_2_0 := by decide +kernel
theorem dJ44_init_2_0 : decode cJ44_init_2 0 = .ok (.aload_n 0, 1) := dk_42 (dk_at dksJ44_init_2_0 0 rfl rfl)
theorem dJ44_init_2_1 : decode cJ44_init_2 1 = .ok (.new 10, 3) := dk_187 0 10 (dk_at dksJ44_init_2_0 1 rfl rfl)
theorem dJ44_init_2_4 : decode cJ44_init_2 4 = .ok (.dup, 1) := dk_89 (dk_at dksJ44_init_2_0 4 rfl rfl)
theorem dJ44_init_2_5 : decode cJ44_init_2 5 = .ok (.invokespecial 12, 3) := dk_183 0 12 (dk_at dksJ44_init_2_0 5 rfl rfl)
theorem dJ44_init_2_8 : decode cJ44_init_2 8 = .ok (.ldc 13, 2) := dk_18 13 (dk_at dksJ44_init_2_0 8 rfl rfl)
theorem dJ44_init_2_10 : decode cJ44_init_2 10 = .ok (.invokevirtual 15, 3) := dk_182 0 15 (dk_at dksJ44_init_2_0 10 rfl rfl)
theorem dJ44_init_2_13 : decode cJ44_init_2 13 = .ok (.iload_n 1, 1) := dk_27 (dk_at dksJ44_init_2_0 13 rfl rfl)
theorem dJ44_init_2_14 : decode cJ44_init_2 14 = .ok (.invokevirtual 19, 3) := dk_182 0 19 (dk_at dksJ44_init_2_0 14 rfl rfl)
theorem dJ44_init_2_17 : decode cJ44_init_2 17 = .ok (.invokevirtual 22, 3) := dk_182 0 22 (dk_at dksJ44_init_2_0 17 rfl rfl)
theorem dJ44_init_2_20 : decode cJ44_init_2 20 = .ok (.invokespecial 7, 3) := dk_183 0 7 (dk_at dksJ44_init_2_0 20 rfl rfl)
theorem dJ44_init_2_23 : decode cJ44_init_2 23 = .ok (.return_, 1) := dk_177 (dk_at dksJ44_init_2_0 23 rfl rfl)
abbrev cJ45_init : ByteArray := prog_37_method_3_code
def yJ45_init : MethodName := ⟨RJ45, "<init>", "(I)V"⟩
def dkwJ45_init_0 : List UInt8 := [42, 187, 0, 10, 89, 183, 0, 12, 18, 13, 182, 0, 15, 27, 182, 0, 19, 182, 0, 22, 183, 0, 7, 177]
abbrev dktJ45_init_0 : List UInt8 := dkwJ45_init_0 ++ []
theorem dksJ45_init_0 : cJ45_init.data.toList.drop 0 = dktJ45_init_0 := by decide +kernel
theorem dJ45_init_0 : decode cJ45_init 0 = .ok (.aload_n 0, 1) := dk_42 (dk_at dksJ45_init_0 0 rfl rfl)
theorem dJ45_init_1 : decode cJ45_init 1 = .ok (.new 10, 3) := dk_187 0 10 (dk_at dksJ45_init_0 1 rfl rfl)
theorem dJ45_init_4 : decode cJ45_init 4 = .ok (.dup, 1) := dk_89 (dk_at dksJ45_init_0 4 rfl rfl)
theorem dJ45_init_5 : decode cJ45_init 5 = .ok (.invokespecial 12, 3) := dk_183 0 12 (dk_at dksJ45_init_0 5 rfl rfl)
theorem dJ45_init_8 : decode cJ45_init 8 = .ok (.ldc 13, 2) := dk_18 13 (dk_at dksJ45_init_0 8 rfl rfl)
theorem dJ45_init_10 : decode cJ45_init 10 = .ok (.invokevirtual 15, 3) := dk_182 0 15 (dk_at dksJ45_init_0 10 rfl rfl)
theorem dJ45_init_13 : decode cJ45_init 13 = .ok (.iload_n 1, 1) := dk_27 (dk_at dksJ45_init_0 13 rfl rfl)
theorem dJ45_init_14 : decode cJ45_init 14 = .ok (.invokevirtual 19, 3) := dk_182 0 19 (dk_at dksJ45_init_0 14 rfl rfl)
theorem dJ45_init_17 : decode cJ45_init 17 = .ok (.invokevirtual 22, 3) := dk_182 0 22 (dk_at dksJ45_init_0 17 rfl rfl)
theorem dJ45_init_20 : decode cJ45_init 20 = .ok (.invokespecial 7, 3) := dk_183 0 7 (dk_at dksJ45_init_0 20 rfl rfl)
theorem dJ45_init_23 : decode cJ45_init 23 = .ok (.return_, 1) := dk_177 (dk_at dksJ45_init_0 23 rfl rfl)
abbrev cJ46_init : ByteArray := prog_19_method_2_code
def yJ46_init : MethodName := ⟨RJ46, "<init>", "(Ljava/lang/String;)V"⟩
def dkwJ46_init_0 : List UInt8 := [42, 43, 183, 0, 7, 177]
abbrev dktJ46_init_0 : List UInt8 := dkwJ46_init_0 ++ []
theorem dksJ46_init_0 : cJ46_init.data.toList.drop 0 = dktJ46_init_0 := by decide +kernel
theorem dJ46_init_0 : decode cJ46_init 0 = .ok (.aload_n 0, 1) := dk_42 (dk_at dksJ46_init_0 0 rfl rfl)
theorem dJ46_init_1 : decode cJ46_init 1 = .ok (.aload_n 1, 1) := dk_43 (dk_at dksJ46_init_0 1 rfl rfl)
theorem dJ46_init_2 : decode cJ46_init 2 = .ok (.invokespecial 7, 3) := dk_183 0 7 (dk_at dksJ46_init_0 2 rfl rfl)
theorem dJ46_init_5 : decode cJ46_init 5 = .ok (.return_, 1) := dk_177 (dk_at dksJ46_init_0 5 rfl rfl)
abbrev cJ46_init_2 : ByteArray := prog_19_method_1_code
def yJ46_init_2 : MethodName := ⟨RJ46, "<init>", "()V"⟩
theorem dJ46_init_2_0 : decode cJ46_init_2 0 = .ok (.aload_n 0, 1) := by decide +kernel
theorem dJ46_init_2_1 : decode cJ46_init_2 1 = .ok (.invokespecial 1, 3) := by decide +kernel
theorem dJ46_init_2_4 : decode cJ46_init_2 4 = .ok (.return_, 1) := by decide +kernel
abbrev cJ47_init : ByteArray := object_method_1_code
def yJ47_init : MethodName := ⟨RJ47, "<init>", "()V"⟩
theorem dJ47_init_0 : decode cJ47_init 0 = .ok (.return_, 1) := by decide +kernel
abbrev cJ47_equals : ByteArray := object_method_4_code
def yJ47_equals : MethodName := ⟨RJ47, "equals", "(Ljava/lang/Object;)Z"⟩
def dkwJ47_equals_0 : List UInt8 := [42, 43, 166, 0, 7, 4, 167, 0, 4, 3, 172]
abbrev dktJ47_equals_0 : List UInt8 := dkwJ47_equals_0 ++ []
theorem dksJ47_equals_0 : cJ47_equals.data.toList.drop 0 = dktJ47_equals_0 := by decide +kernel
theorem dJ47_equals_0 : decode cJ47_equals 0 = .ok (.aload_n 0, 1) := dk_42 (dk_at dksJ47_equals_0 0 rfl rfl)
theorem dJ47_equals_1 : decode cJ47_equals 1 = .ok (.aload_n 1, 1) := dk_43 (dk_at dksJ47_equals_0 1 rfl rfl)
theorem dJ47_equals_2 : decode cJ47_equals 2 = .ok (.if_acmp .ne 7, 3) := dk_166 0 7 (dk_at dksJ47_equals_0 2 rfl rfl)
theorem dJ47_equals_5 : decode cJ47_equals 5 = .ok (.iconst 1, 1) := dk_4 (dk_at dksJ47_equals_0 5 rfl rfl)
theorem dJ47_equals_6 : decode cJ47_equals 6 = .ok (.goto 4, 3) := dk_167 0 4 (dk_at dksJ47_equals_0 6 rfl rfl)
theorem dJ47_equals_9 : decode cJ47_equals 9 = .ok (.iconst 0, 1) := dk_3 (dk_at dksJ47_equals_0 9 rfl rfl)
theorem dJ47_equals_10 : decode cJ47_equals 10 = .ok (.ireturn, 1) := dk_172 (dk_at dksJ47_equals_0 10 rfl rfl)
abbrev cJ48_getUTF16Char : ByteArray := prog_41_method_45_code
def yJ48_getUTF16Char : MethodName := ⟨RJ48, "getUTF16Char", "([BI)C"⟩
def dkwJ48_getUTF16Char_0 : List UInt8 := [43, 28, 184, 0, 185, 172]
abbrev dktJ48_getUTF16Char_0 : List UInt8 := dkwJ48_getUTF16Char_0 ++ []
theorem dksJ48_getUTF16Char_0 : cJ48_getUTF16Char.data.toList.drop 0 = dktJ48_getUTF16Char_0 := by decide +kernel
theorem dJ48_getUTF16Char_0 : decode cJ48_getUTF16Char 0 = .ok (.aload_n 1, 1) := dk_43 (dk_at dksJ48_getUTF16Char_0 0 rfl rfl)
theorem dJ48_getUTF16Char_1 : decode cJ48_getUTF16Char 1 = .ok (.iload_n 2, 1) := dk_28 (dk_at dksJ48_getUTF16Char_0 1 rfl rfl)
theorem dJ48_getUTF16Char_2 : decode cJ48_getUTF16Char 2 = .ok (.invokestatic 185, 3) := dk_184 0 185 (dk_at dksJ48_getUTF16Char_0 2 rfl rfl)
theorem dJ48_getUTF16Char_5 : decode cJ48_getUTF16Char 5 = .ok (.ireturn, 1) := dk_172 (dk_at dksJ48_getUTF16Char_0 5 rfl rfl)
