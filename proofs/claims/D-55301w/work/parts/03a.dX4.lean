set_option maxRecDepth 100000
abbrev cX4_init : ByteArray := prog_15_method_1_code
def yX4_init : MethodName := ⟨RX4, "<init>", "()V"⟩
def dkwX4_init_4 : List UInt8 := [182, 0, 39, 177]
abbrev dktX4_init_4 : List UInt8 := dkwX4_init_4 ++ []
def dkwX4_init_3 : List UInt8 := [42, 17, 0, 180, 188, 10, 181, 0, 36, 42, 180, 0, 7, 4, 5, 79, 42, 180, 0, 7, 5, 5, 79, 42]
abbrev dktX4_init_3 : List UInt8 := dkwX4_init_3 ++ dktX4_init_4
def dkwX4_init_2 : List UInt8 := [181, 0, 22, 42, 16, 60, 188, 5, 181, 0, 25, 42, 2, 181, 0, 29, 42, 16, 60, 188, 5, 181, 0, 33]
abbrev dktX4_init_2 : List UInt8 := dkwX4_init_2 ++ dktX4_init_3
def dkwX4_init_1 : List UInt8 := [17, 11, 40, 188, 10, 181, 0, 16, 42, 17, 1, 101, 188, 10, 181, 0, 19, 42, 17, 1, 101, 188, 10]
abbrev dktX4_init_1 : List UInt8 := dkwX4_init_1 ++ dktX4_init_2
def dkwX4_init_0 : List UInt8 := [42, 183, 0, 1, 42, 17, 1, 101, 188, 10, 181, 0, 7, 42, 17, 1, 101, 188, 10, 181, 0, 13, 42]
abbrev dktX4_init_0 : List UInt8 := dkwX4_init_0 ++ dktX4_init_1
theorem dksX4_init_0 : cX4_init.data.toList.drop 0 = dktX4_init_0 := by decide +kernel
theorem dksX4_init_1 : cX4_init.data.toList.drop 23 = dktX4_init_1 := dk_seg dksX4_init_0 23 rfl rfl
theorem dksX4_init_2 : cX4_init.data.toList.drop 46 = dktX4_init_2 := dk_seg dksX4_init_1 23 rfl rfl
theorem dksX4_init_3 : cX4_init.data.toList.drop 70 = dktX4_init_3 := dk_seg dksX4_init_2 24 rfl rfl
theorem dksX4_init_4 : cX4_init.data.toList.drop 94 = dktX4_init_4 := dk_seg dksX4_init_3 24 rfl rfl
theorem dX4_init_0 : decode cX4_init 0 = .ok (.aload_n 0, 1) := dk_42 (dk_at dksX4_init_0 0 rfl rfl)
theorem dX4_init_1 : decode cX4_init 1 = .ok (.invokespecial 1, 3) := dk_183 0 1 (dk_at dksX4_init_0 1 rfl rfl)
theorem dX4_init_4 : decode cX4_init 4 = .ok (.aload_n 0, 1) := dk_42 (dk_at dksX4_init_0 4 rfl rfl)
theorem dX4_init_5 : decode cX4_init 5 = .ok (.sipush 357, 3) := dk_17 1 101 (dk_at dksX4_init_0 5 rfl rfl)
theorem dX4_init_8 : decode cX4_init 8 = .ok (.newarray .int, 2) := dk_188_10 (dk_at dksX4_init_0 8 rfl rfl)
theorem dX4_init_10 : decode cX4_init 10 = .ok (.putfield 7, 3) := dk_181 0 7 (dk_at dksX4_init_0 10 rfl rfl)
theorem dX4_init_13 : decode cX4_init 13 = .ok (.aload_n 0, 1) := dk_42 (dk_at dksX4_init_0 13 rfl rfl)
theorem dX4_init_14 : decode cX4_init 14 = .ok (.sipush 357, 3) := dk_17 1 101 (dk_at dksX4_init_0 14 rfl rfl)
theorem dX4_init_17 : decode cX4_init 17 = .ok (.newarray .int, 2) := dk_188_10 (dk_at dksX4_init_0 17 rfl rfl)
theorem dX4_init_19 : decode cX4_init 19 = .ok (.putfield 13, 3) := dk_181 0 13 (dk_at dksX4_init_0 19 rfl rfl)
theorem dX4_init_22 : decode cX4_init 22 = .ok (.aload_n 0, 1) := dk_42 (dk_at dksX4_init_0 22 rfl rfl)
theorem dX4_init_23 : decode cX4_init 23 = .ok (.sipush 2856, 3) := dk_17 11 40 (dk_at dksX4_init_1 0 rfl rfl)
theorem dX4_init_26 : decode cX4_init 26 = .ok (.newarray .int, 2) := dk_188_10 (dk_at dksX4_init_1 3 rfl rfl)
theorem dX4_init_28 : decode cX4_init 28 = .ok (.putfield 16, 3) := dk_181 0 16 (dk_at dksX4_init_1 5 rfl rfl)
theorem dX4_init_31 : decode cX4_init 31 = .ok (.aload_n 0, 1) := dk_42 (dk_at dksX4_init_1 8 rfl rfl)
theorem dX4_init_32 : decode cX4_init 32 = .ok (.sipush 357, 3) := dk_17 1 101 (dk_at dksX4_init_1 9 rfl rfl)
theorem dX4_init_35 : decode cX4_init 35 = .ok (.newarray .int, 2) := dk_188_10 (dk_at dksX4_init_1 12 rfl rfl)
theorem dX4_init_37 : decode cX4_init 37 = .ok (.putfield 19, 3) := dk_181 0 19 (dk_at dksX4_init_1 14 rfl rfl)
theorem dX4_init_40 : decode cX4_init 40 = .ok (.aload_n 0, 1) := dk_42 (dk_at dksX4_init_1 17 rfl rfl)
theorem dX4_init_41 : decode cX4_init 41 = .ok (.sipush 357, 3) := dk_17 1 101 (dk_at dksX4_init_1 18 rfl rfl)
theorem dX4_init_44 : decode cX4_init 44 = .ok (.newarray .int, 2) := dk_188_10 (dk_at dksX4_init_1 21 rfl rfl)
theorem dX4_init_46 : decode cX4_init 46 = .ok (.putfield 22, 3) := dk_181 0 22 (dk_at dksX4_init_2 0 rfl rfl)
theorem dX4_init_49 : decode cX4_init 49 = .ok (.aload_n 0, 1) := dk_42 (dk_at dksX4_init_2 3 rfl rfl)
theorem dX4_init_50 : decode cX4_init 50 = .ok (.bipush 60, 2) := dk_16 60 (dk_at dksX4_init_2 4 rfl rfl)
theorem dX4_init_52 : decode cX4_init 52 = .ok (.newarray .char, 2) := dk_188_5 (dk_at dksX4_init_2 6 rfl rfl)
theorem dX4_init_54 : decode cX4_init 54 = .ok (.putfield 25, 3) := dk_181 0 25 (dk_at dksX4_init_2 8 rfl rfl)
theorem dX4_init_57 : decode cX4_init 57 = .ok (.aload_n 0, 1) := dk_42 (dk_at dksX4_init_2 11 rfl rfl)
theorem dX4_init_58 : decode cX4_init 58 = .ok (.iconst (-1), 1) := dk_2 (dk_at dksX4_init_2 12 rfl rfl)
theorem dX4_init_59 : decode cX4_init 59 = .ok (.putfield 29, 3) := dk_181 0 29 (dk_at dksX4_init_2 13 rfl rfl)
theorem dX4_init_62 : decode cX4_init 62 = .ok (.aload_n 0, 1) := dk_42 (dk_at dksX4_init_2 16 rfl rfl)
theorem dX4_init_63 : decode cX4_init 63 = .ok (.bipush 60, 2) := dk_16 60 (dk_at dksX4_init_2 17 rfl rfl)
theorem dX4_init_65 : decode cX4_init 65 = .ok (.newarray .char, 2) := dk_188_5 (dk_at dksX4_init_2 19 rfl rfl)
theorem dX4_init_67 : decode cX4_init 67 = .ok (.putfield 33, 3) := dk_181 0 33 (dk_at dksX4_init_2 21 rfl rfl)
theorem dX4_init_70 : decode cX4_init 70 = .ok (.aload_n 0, 1) := dk_42 (dk_at dksX4_init_3 0 rfl rfl)
theorem dX4_init_71 : decode cX4_init 71 = .ok (.sipush 180, 3) := dk_17 0 180 (dk_at dksX4_init_3 1 rfl rfl)
theorem dX4_init_74 : decode cX4_init 74 = .ok (.newarray .int, 2) := dk_188_10 (dk_at dksX4_init_3 4 rfl rfl)
theorem dX4_init_76 : decode cX4_init 76 = .ok (.putfield 36, 3) := dk_181 0 36 (dk_at dksX4_init_3 6 rfl rfl)
theorem dX4_init_79 : decode cX4_init 79 = .ok (.aload_n 0, 1) := dk_42 (dk_at dksX4_init_3 9 rfl rfl)
theorem dX4_init_80 : decode cX4_init 80 = .ok (.getfield 7, 3) := dk_180 0 7 (dk_at dksX4_init_3 10 rfl rfl)
theorem dX4_init_83 : decode cX4_init 83 = .ok (.iconst 1, 1) := dk_4 (dk_at dksX4_init_3 13 rfl rfl)
theorem dX4_init_84 : decode cX4_init 84 = .ok (.iconst 2, 1) := dk_5 (dk_at dksX4_init_3 14 rfl rfl)
theorem dX4_init_85 : decode cX4_init 85 = .ok (.iastore, 1) := dk_79 (dk_at dksX4_init_3 15 rfl rfl)
theorem dX4_init_86 : decode cX4_init 86 = .ok (.aload_n 0, 1) := dk_42 (dk_at dksX4_init_3 16 rfl rfl)
theorem dX4_init_87 : decode cX4_init 87 = .ok (.getfield 7, 3) := dk_180 0 7 (dk_at dksX4_init_3 17 rfl rfl)
theorem dX4_init_90 : decode cX4_init 90 = .ok (.iconst 2, 1) := dk_5 (dk_at dksX4_init_3 20 rfl rfl)
theorem dX4_init_91 : decode cX4_init 91 = .ok (.iconst 2, 1) := dk_5 (dk_at dksX4_init_3 21 rfl rfl)
theorem dX4_init_92 : decode cX4_init 92 = .ok (.iastore, 1) := dk_79 (dk_at dksX4_init_3 22 rfl rfl)
theorem dX4_init_93 : decode cX4_init 93 = .ok (.aload_n 0, 1) := dk_42 (dk_at dksX4_init_3 23 rfl rfl)
theorem dX4_init_94 : decode cX4_init 94 = .ok (.invokevirtual 39, 3) := dk_182 0 39 (dk_at dksX4_init_4 0 rfl rfl)
theorem dX4_init_97 : decode cX4_init 97 = .ok (.return_, 1) := dk_177 (dk_at dksX4_init_4 3 rfl rfl)
abbrev cX4_empties : ByteArray := prog_15_method_15_code
def yX4_empties : MethodName := ⟨RX4, "empties", "()V"⟩
def dkwX4_empties_0 : List UInt8 := [3, 60, 27, 16, 16, 162, 0, 14, 42, 27, 182, 0, 72, 132, 1, 1, 167, 255, 242, 177]
abbrev dktX4_empties_0 : List UInt8 := dkwX4_empties_0 ++ []
theorem dksX4_empties_0 : cX4_empties.data.toList.drop 0 = dktX4_empties_0 := by decide +kernel
theorem dX4_empties_0 : decode cX4_empties 0 = .ok (.iconst 0, 1) := dk_3 (dk_at dksX4_empties_0 0 rfl rfl)
theorem dX4_empties_1 : decode cX4_empties 1 = .ok (.istore_n 1, 1) := dk_60 (dk_at dksX4_empties_0 1 rfl rfl)
theorem dX4_empties_2 : decode cX4_empties 2 = .ok (.iload_n 1, 1) := dk_27 (dk_at dksX4_empties_0 2 rfl rfl)
theorem dX4_empties_3 : decode cX4_empties 3 = .ok (.bipush 16, 2) := dk_16 16 (dk_at dksX4_empties_0 3 rfl rfl)
theorem dX4_empties_5 : decode cX4_empties 5 = .ok (.if_icmp .ge 14, 3) := dk_162 0 14 (dk_at dksX4_empties_0 5 rfl rfl)
theorem dX4_empties_8 : decode cX4_empties 8 = .ok (.aload_n 0, 1) := dk_42 (dk_at dksX4_empties_0 8 rfl rfl)
theorem dX4_empties_9 : decode cX4_empties 9 = .ok (.iload_n 1, 1) := dk_27 (dk_at dksX4_empties_0 9 rfl rfl)
theorem dX4_empties_10 : decode cX4_empties 10 = .ok (.invokevirtual 72, 3) := dk_182 0 72 (dk_at dksX4_empties_0 10 rfl rfl)
theorem dX4_empties_13 : decode cX4_empties 13 = .ok (.iinc 1 1, 3) := dk_132 1 1 (dk_at dksX4_empties_0 13 rfl rfl)
theorem dX4_empties_16 : decode cX4_empties 16 = .ok (.goto (-14), 3) := dk_167 255 242 (dk_at dksX4_empties_0 16 rfl rfl)
theorem dX4_empties_19 : decode cX4_empties 19 = .ok (.return_, 1) := dk_177 (dk_at dksX4_empties_0 19 rfl rfl)
abbrev cX4_emptiesLine : ByteArray := prog_15_method_14_code
def yX4_emptiesLine : MethodName := ⟨RX4, "emptiesLine", "(I)V"⟩
def dkwX4_emptiesLine_3 : List UInt8 := [180, 0, 7, 17, 0, 169, 7, 27, 104, 96, 28, 96, 3, 79, 132, 2, 1, 167, 255, 233, 177]
abbrev dktX4_emptiesLine_3 : List UInt8 := dkwX4_emptiesLine_3 ++ []
def dkwX4_emptiesLine_2 : List UInt8 := [96, 3, 79, 42, 180, 0, 7, 17, 0, 153, 27, 96, 3, 79, 3, 61, 28, 7, 162, 0, 24, 42]
abbrev dktX4_emptiesLine_2 : List UInt8 := dkwX4_emptiesLine_2 ++ dktX4_emptiesLine_3
def dkwX4_emptiesLine_1 : List UInt8 := [16, 105, 27, 96, 3, 79, 42, 180, 0, 7, 16, 121, 27, 96, 3, 79, 42, 180, 0, 7, 17, 0, 137, 27]
abbrev dktX4_emptiesLine_1 : List UInt8 := dkwX4_emptiesLine_1 ++ dktX4_emptiesLine_2
def dkwX4_emptiesLine_0 : List UInt8 := [42, 180, 0, 7, 16, 73, 27, 96, 2, 79, 42, 180, 0, 7, 16, 89, 27, 96, 3, 79, 42, 180, 0, 7]
abbrev dktX4_emptiesLine_0 : List UInt8 := dkwX4_emptiesLine_0 ++ dktX4_emptiesLine_1
theorem dksX4_emptiesLine_0 : cX4_emptiesLine.data.toList.drop 0 = dktX4_emptiesLine_0 := by decide +kernel
theorem dksX4_emptiesLine_1 : cX4_emptiesLine.data.toList.drop 24 = dktX4_emptiesLine_1 := dk_seg dksX4_emptiesLine_0 24 rfl rfl
theorem dksX4_emptiesLine_2 : cX4_emptiesLine.data.toList.drop 48 = dktX4_emptiesLine_2 := dk_seg dksX4_emptiesLine_1 24 rfl rfl
theorem dksX4_emptiesLine_3 : cX4_emptiesLine.data.toList.drop 70 = dktX4_emptiesLine_3 := dk_seg dksX4_emptiesLine_2 22 rfl rfl
theorem dX4_emptiesLine_0 : decode cX4_emptiesLine 0 = .ok (.aload_n 0, 1) := dk_42 (dk_at dksX4_emptiesLine_0 0 rfl rfl)
theorem dX4_emptiesLine_1 : decode cX4_emptiesLine 1 = .ok (.getfield 7, 3) := dk_180 0 7 (dk_at dksX4_emptiesLine_0 1 rfl rfl)
theorem dX4_emptiesLine_4 : decode cX4_emptiesLine 4 = .ok (.bipush 73, 2) := dk_16 73 (dk_at dksX4_emptiesLine_0 4 rfl rfl)
theorem dX4_emptiesLine_6 : decode cX4_emptiesLine 6 = .ok (.iload_n 1, 1) := dk_27 (dk_at dksX4_emptiesLine_0 6 rfl rfl)
theorem dX4_emptiesLine_7 : decode cX4_emptiesLine 7 = .ok (.iadd, 1) := dk_96 (dk_at dksX4_emptiesLine_0 7 rfl rfl)
theorem dX4_emptiesLine_8 : decode cX4_emptiesLine 8 = .ok (.iconst (-1), 1) := dk_2 (dk_at dksX4_emptiesLine_0 8 rfl rfl)
theorem dX4_emptiesLine_9 : decode cX4_emptiesLine 9 = .ok (.iastore, 1) := dk_79 (dk_at dksX4_emptiesLine_0 9 rfl rfl)
theorem dX4_emptiesLine_10 : decode cX4_emptiesLine 10 = .ok (.aload_n 0, 1) := dk_42 (dk_at dksX4_emptiesLine_0 10 rfl rfl)
theorem dX4_emptiesLine_11 : decode cX4_emptiesLine 11 = .ok (.getfield 7, 3) := dk_180 0 7 (dk_at dksX4_emptiesLine_0 11 rfl rfl)
theorem dX4_emptiesLine_14 : decode cX4_emptiesLine 14 = .ok (.bipush 89, 2) := dk_16 89 (dk_at dksX4_emptiesLine_0 14 rfl rfl)
theorem dX4_emptiesLine_16 : decode cX4_emptiesLine 16 = .ok (.iload_n 1, 1) := dk_27 (dk_at dksX4_emptiesLine_0 16 rfl rfl)
theorem dX4_emptiesLine_17 : decode cX4_emptiesLine 17 = .ok (.iadd, 1) := dk_96 (dk_at dksX4_emptiesLine_0 17 rfl rfl)
theorem dX4_emptiesLine_18 : decode cX4_emptiesLine 18 = .ok (.iconst 0, 1) := dk_3 (dk_at dksX4_emptiesLine_0 18 rfl rfl)
theorem dX4_emptiesLine_19 : decode cX4_emptiesLine 19 = .ok (.iastore, 1) := dk_79 (dk_at dksX4_emptiesLine_0 19 rfl rfl)
theorem dX4_emptiesLine_20 : decode cX4_emptiesLine 20 = .ok (.aload_n 0, 1) := dk_42 (dk_at dksX4_emptiesLine_0 20 rfl rfl)
theorem dX4_emptiesLine_21 : decode cX4_emptiesLine 21 = .ok (.getfield 7, 3) := dk_180 0 7 (dk_at dksX4_emptiesLine_0 21 rfl rfl)
theorem dX4_emptiesLine_24 : decode cX4_emptiesLine 24 = .ok (.bipush 105, 2) := dk_16 105 (dk_at dksX4_emptiesLine_1 0 rfl rfl)
theorem dX4_emptiesLine_26 : decode cX4_emptiesLine 26 = .ok (.iload_n 1, 1) := dk_27 (dk_at dksX4_emptiesLine_1 2 rfl rfl)
theorem dX4_emptiesLine_27 : decode cX4_emptiesLine 27 = .ok (.iadd, 1) := dk_96 (dk_at dksX4_emptiesLine_1 3 rfl rfl)
theorem dX4_emptiesLine_28 : decode cX4_emptiesLine 28 = .ok (.iconst 0, 1) := dk_3 (dk_at dksX4_emptiesLine_1 4 rfl rfl)
theorem dX4_emptiesLine_29 : decode cX4_emptiesLine 29 = .ok (.iastore, 1) := dk_79 (dk_at dksX4_emptiesLine_1 5 rfl rfl)
theorem dX4_emptiesLine_30 : decode cX4_emptiesLine 30 = .ok (.aload_n 0, 1) := dk_42 (dk_at dksX4_emptiesLine_1 6 rfl rfl)
theorem dX4_emptiesLine_31 : decode cX4_emptiesLine 31 = .ok (.getfield 7, 3) := dk_180 0 7 (dk_at dksX4_emptiesLine_1 7 rfl rfl)
theorem dX4_emptiesLine_34 : decode cX4_emptiesLine 34 = .ok (.bipush 121, 2) := dk_16 121 (dk_at dksX4_emptiesLine_1 10 rfl rfl)
theorem dX4_emptiesLine_36 : decode cX4_emptiesLine 36 = .ok (.iload_n 1, 1) := dk_27 (dk_at dksX4_emptiesLine_1 12 rfl rfl)
theorem dX4_emptiesLine_37 : decode cX4_emptiesLine 37 = .ok (.iadd, 1) := dk_96 (dk_at dksX4_emptiesLine_1 13 rfl rfl)
theorem dX4_emptiesLine_38 : decode cX4_emptiesLine 38 = .ok (.iconst 0, 1) := dk_3 (dk_at dksX4_emptiesLine_1 14 rfl rfl)
theorem dX4_emptiesLine_39 : decode cX4_emptiesLine 39 = .ok (.iastore, 1) := dk_79 (dk_at dksX4_emptiesLine_1 15 rfl rfl)
theorem dX4_emptiesLine_40 : decode cX4_emptiesLine 40 = .ok (.aload_n 0, 1) := dk_42 (dk_at dksX4_emptiesLine_1 16 rfl rfl)
theorem dX4_emptiesLine_41 : decode cX4_emptiesLine 41 = .ok (.getfield 7, 3) := dk_180 0 7 (dk_at dksX4_emptiesLine_1 17 rfl rfl)
theorem dX4_emptiesLine_44 : decode cX4_emptiesLine 44 = .ok (.sipush 137, 3) := dk_17 0 137 (dk_at dksX4_emptiesLine_1 20 rfl rfl)
theorem dX4_emptiesLine_47 : decode cX4_emptiesLine 47 = .ok (.iload_n 1, 1) := dk_27 (dk_at dksX4_emptiesLine_1 23 rfl rfl)
theorem dX4_emptiesLine_48 : decode cX4_emptiesLine 48 = .ok (.iadd, 1) := dk_96 (dk_at dksX4_emptiesLine_2 0 rfl rfl)
theorem dX4_emptiesLine_49 : decode cX4_emptiesLine 49 = .ok (.iconst 0, 1) := dk_3 (dk_at dksX4_emptiesLine_2 1 rfl rfl)
theorem dX4_emptiesLine_50 : decode cX4_emptiesLine 50 = .ok (.iastore, 1) := dk_79 (dk_at dksX4_emptiesLine_2 2 rfl rfl)
theorem dX4_emptiesLine_51 : decode cX4_emptiesLine 51 = .ok (.aload_n 0, 1) := dk_42 (dk_at dksX4_emptiesLine_2 3 rfl rfl)
theorem dX4_emptiesLine_52 : decode cX4_emptiesLine 52 = .ok (.getfield 7, 3) := dk_180 0 7 (dk_at dksX4_emptiesLine_2 4 rfl rfl)
theorem dX4_emptiesLine_55 : decode cX4_emptiesLine 55 = .ok (.sipush 153, 3) := dk_17 0 153 (dk_at dksX4_emptiesLine_2 7 rfl rfl)
theorem dX4_emptiesLine_58 : decode cX4_emptiesLine 58 = .ok (.iload_n 1, 1) := dk_27 (dk_at dksX4_emptiesLine_2 10 rfl rfl)
theorem dX4_emptiesLine_59 : decode cX4_emptiesLine 59 = .ok (.iadd, 1) := dk_96 (dk_at dksX4_emptiesLine_2 11 rfl rfl)
theorem dX4_emptiesLine_60 : decode cX4_emptiesLine 60 = .ok (.iconst 0, 1) := dk_3 (dk_at dksX4_emptiesLine_2 12 rfl rfl)
theorem dX4_emptiesLine_61 : decode cX4_emptiesLine 61 = .ok (.iastore, 1) := dk_79 (dk_at dksX4_emptiesLine_2 13 rfl rfl)
theorem dX4_emptiesLine_62 : decode cX4_emptiesLine 62 = .ok (.iconst 0, 1) := dk_3 (dk_at dksX4_emptiesLine_2 14 rfl rfl)
theorem dX4_emptiesLine_63 : decode cX4_emptiesLine 63 = .ok (.istore_n 2, 1) := dk_61 (dk_at dksX4_emptiesLine_2 15 rfl rfl)
theorem dX4_emptiesLine_64 : decode cX4_emptiesLine 64 = .ok (.iload_n 2, 1) := dk_28 (dk_at dksX4_emptiesLine_2 16 rfl rfl)
theorem dX4_emptiesLine_65 : decode cX4_emptiesLine 65 = .ok (.iconst 4, 1) := dk_7 (dk_at dksX4_emptiesLine_2 17 rfl rfl)
theorem dX4_emptiesLine_66 : decode cX4_emptiesLine 66 = .ok (.if_icmp .ge 24, 3) := dk_162 0 24 (dk_at dksX4_emptiesLine_2 18 rfl rfl)
theorem dX4_emptiesLine_69 : decode cX4_emptiesLine 69 = .ok (.aload_n 0, 1) := dk_42 (dk_at dksX4_emptiesLine_2 21 rfl rfl)
theorem dX4_emptiesLine_70 : decode cX4_emptiesLine 70 = .ok (.getfield 7, 3) := dk_180 0 7 (dk_at dksX4_emptiesLine_3 0 rfl rfl)
theorem dX4_emptiesLine_73 : decode cX4_emptiesLine 73 = .ok (.sipush 169, 3) := dk_17 0 169 (dk_at dksX4_emptiesLine_3 3 rfl rfl)
theorem dX4_emptiesLine_76 : decode cX4_emptiesLine 76 = .ok (.iconst 4, 1) := dk_7 (dk_at dksX4_emptiesLine_3 6 rfl rfl)
theorem dX4_emptiesLine_77 : decode cX4_emptiesLine 77 = .ok (.iload_n 1, 1) := dk_27 (dk_at dksX4_emptiesLine_3 7 rfl rfl)
theorem dX4_emptiesLine_78 : decode cX4_emptiesLine 78 = .ok (.imul, 1) := dk_104 (dk_at dksX4_emptiesLine_3 8 rfl rfl)
theorem dX4_emptiesLine_79 : decode cX4_emptiesLine 79 = .ok (.iadd, 1) := dk_96 (dk_at dksX4_emptiesLine_3 9 rfl rfl)
theorem dX4_emptiesLine_80 : decode cX4_emptiesLine 80 = .ok (.iload_n 2, 1) := dk_28 (dk_at dksX4_emptiesLine_3 10 rfl rfl)
theorem dX4_emptiesLine_81 : decode cX4_emptiesLine 81 = .ok (.iadd, 1) := dk_96 (dk_at dksX4_emptiesLine_3 11 rfl rfl)
theorem dX4_emptiesLine_82 : decode cX4_emptiesLine 82 = .ok (.iconst 0, 1) := dk_3 (dk_at dksX4_emptiesLine_3 12 rfl rfl)
theorem dX4_emptiesLine_83 : decode cX4_emptiesLine 83 = .ok (.iastore, 1) := dk_79 (dk_at dksX4_emptiesLine_3 13 rfl rfl)
theorem dX4_emptiesLine_84 : decode cX4_emptiesLine 84 = .ok (.iinc 2 1, 3) := dk_132 2 1 (dk_at dksX4_emptiesLine_3 14 rfl rfl)
theorem dX4_emptiesLine_87 : decode cX4_emptiesLine 87 = .ok (.goto (-23), 3) := dk_167 255 233 (dk_at dksX4_emptiesLine_3 17 rfl rfl)
theorem dX4_emptiesLine_90 : decode cX4_emptiesLine 90 = .ok (.return_, 1) := dk_177 (dk_at dksX4_emptiesLine_3 20 rfl rfl)
abbrev cX4_thrown : ByteArray := prog_15_method_2_code
def yX4_thrown : MethodName := ⟨RX4, "thrown", "()I"⟩
theorem dX4_thrown_0 : decode cX4_thrown 0 = .ok (.aload_n 0, 1) := by decide +kernel
theorem dX4_thrown_1 : decode cX4_thrown 1 = .ok (.getfield 42, 3) := by decide +kernel
theorem dX4_thrown_4 : decode cX4_thrown 4 = .ok (.ireturn, 1) := by decide +kernel
abbrev cX4_read : ByteArray := prog_15_method_28_code
def yX4_read : MethodName := ⟨RX4, "read", "(I)I"⟩
def dkwX4_read_0 : List UInt8 := [42, 182, 0, 122, 42, 42, 27, 182, 0, 125, 182, 0, 128, 172]
abbrev dktX4_read_0 : List UInt8 := dkwX4_read_0 ++ []
theorem dksX4_read_0 : cX4_read.data.toList.drop 0 = dktX4_read_0 := by decide +kernel
theorem dX4_read_0 : decode cX4_read 0 = .ok (.aload_n 0, 1) := dk_42 (dk_at dksX4_read_0 0 rfl rfl)
theorem dX4_read_1 : decode cX4_read 1 = .ok (.invokevirtual 122, 3) := dk_182 0 122 (dk_at dksX4_read_0 1 rfl rfl)
theorem dX4_read_4 : decode cX4_read 4 = .ok (.aload_n 0, 1) := dk_42 (dk_at dksX4_read_0 4 rfl rfl)
theorem dX4_read_5 : decode cX4_read 5 = .ok (.aload_n 0, 1) := dk_42 (dk_at dksX4_read_0 5 rfl rfl)
theorem dX4_read_6 : decode cX4_read 6 = .ok (.iload_n 1, 1) := dk_27 (dk_at dksX4_read_0 6 rfl rfl)
theorem dX4_read_7 : decode cX4_read 7 = .ok (.invokevirtual 125, 3) := dk_182 0 125 (dk_at dksX4_read_0 7 rfl rfl)
theorem dX4_read_10 : decode cX4_read 10 = .ok (.invokevirtual 128, 3) := dk_182 0 128 (dk_at dksX4_read_0 10 rfl rfl)
theorem dX4_read_13 : decode cX4_read 13 = .ok (.ireturn, 1) := dk_172 (dk_at dksX4_read_0 13 rfl rfl)
abbrev cX4_looksBack : ByteArray := prog_15_method_8_code
def yX4_looksBack : MethodName := ⟨RX4, "looksBack", "()V"⟩
def dkwX4_looksBack_0 : List UInt8 := [42, 180, 0, 7, 3, 42, 180, 0, 13, 3, 184, 0, 61, 177]
abbrev dktX4_looksBack_0 : List UInt8 := dkwX4_looksBack_0 ++ []
theorem dksX4_looksBack_0 : cX4_looksBack.data.toList.drop 0 = dktX4_looksBack_0 := by decide +kernel
theorem dX4_looksBack_0 : decode cX4_looksBack 0 = .ok (.aload_n 0, 1) := dk_42 (dk_at dksX4_looksBack_0 0 rfl rfl)
theorem dX4_looksBack_1 : decode cX4_looksBack 1 = .ok (.getfield 7, 3) := dk_180 0 7 (dk_at dksX4_looksBack_0 1 rfl rfl)
theorem dX4_looksBack_4 : decode cX4_looksBack 4 = .ok (.iconst 0, 1) := dk_3 (dk_at dksX4_looksBack_0 4 rfl rfl)
theorem dX4_looksBack_5 : decode cX4_looksBack 5 = .ok (.aload_n 0, 1) := dk_42 (dk_at dksX4_looksBack_0 5 rfl rfl)
theorem dX4_looksBack_6 : decode cX4_looksBack 6 = .ok (.getfield 13, 3) := dk_180 0 13 (dk_at dksX4_looksBack_0 6 rfl rfl)
theorem dX4_looksBack_9 : decode cX4_looksBack 9 = .ok (.iconst 0, 1) := dk_3 (dk_at dksX4_looksBack_0 9 rfl rfl)
theorem dX4_looksBack_10 : decode cX4_looksBack 10 = .ok (.invokestatic 61, 3) := dk_184 0 61 (dk_at dksX4_looksBack_0 10 rfl rfl)
theorem dX4_looksBack_13 : decode cX4_looksBack 13 = .ok (.return_, 1) := dk_177 (dk_at dksX4_looksBack_0 13 rfl rfl)
abbrev cX4_copy : ByteArray := prog_15_method_7_code
def yX4_copy : MethodName := ⟨RX4, "copy", "([II[II)V"⟩
def dkwX4_copy_1 : List UInt8 := [132, 4, 1, 167, 255, 233, 177]
abbrev dktX4_copy_1 : List UInt8 := dkwX4_copy_1 ++ []
def dkwX4_copy_0 : List UInt8 := [3, 54, 4, 21, 4, 17, 1, 101, 162, 0, 21, 44, 29, 21, 4, 96, 42, 27, 21, 4, 96, 46, 79]
abbrev dktX4_copy_0 : List UInt8 := dkwX4_copy_0 ++ dktX4_copy_1
theorem dksX4_copy_0 : cX4_copy.data.toList.drop 0 = dktX4_copy_0 := by decide +kernel
theorem dksX4_copy_1 : cX4_copy.data.toList.drop 23 = dktX4_copy_1 := dk_seg dksX4_copy_0 23 rfl rfl
theorem dX4_copy_0 : decode cX4_copy 0 = .ok (.iconst 0, 1) := dk_3 (dk_at dksX4_copy_0 0 rfl rfl)
theorem dX4_copy_1 : decode cX4_copy 1 = .ok (.istore 4, 2) := dk_54 4 (dk_at dksX4_copy_0 1 rfl rfl)
theorem dX4_copy_3 : decode cX4_copy 3 = .ok (.iload 4, 2) := dk_21 4 (dk_at dksX4_copy_0 3 rfl rfl)
theorem dX4_copy_5 : decode cX4_copy 5 = .ok (.sipush 357, 3) := dk_17 1 101 (dk_at dksX4_copy_0 5 rfl rfl)
theorem dX4_copy_8 : decode cX4_copy 8 = .ok (.if_icmp .ge 21, 3) := dk_162 0 21 (dk_at dksX4_copy_0 8 rfl rfl)
theorem dX4_copy_11 : decode cX4_copy 11 = .ok (.aload_n 2, 1) := dk_44 (dk_at dksX4_copy_0 11 rfl rfl)
theorem dX4_copy_12 : decode cX4_copy 12 = .ok (.iload_n 3, 1) := dk_29 (dk_at dksX4_copy_0 12 rfl rfl)
theorem dX4_copy_13 : decode cX4_copy 13 = .ok (.iload 4, 2) := dk_21 4 (dk_at dksX4_copy_0 13 rfl rfl)
theorem dX4_copy_15 : decode cX4_copy 15 = .ok (.iadd, 1) := dk_96 (dk_at dksX4_copy_0 15 rfl rfl)
theorem dX4_copy_16 : decode cX4_copy 16 = .ok (.aload_n 0, 1) := dk_42 (dk_at dksX4_copy_0 16 rfl rfl)
theorem dX4_copy_17 : decode cX4_copy 17 = .ok (.iload_n 1, 1) := dk_27 (dk_at dksX4_copy_0 17 rfl rfl)
theorem dX4_copy_18 : decode cX4_copy 18 = .ok (.iload 4, 2) := dk_21 4 (dk_at dksX4_copy_0 18 rfl rfl)
theorem dX4_copy_20 : decode cX4_copy 20 = .ok (.iadd, 1) := dk_96 (dk_at dksX4_copy_0 20 rfl rfl)
theorem dX4_copy_21 : decode cX4_copy 21 = .ok (.iaload, 1) := dk_46 (dk_at dksX4_copy_0 21 rfl rfl)
theorem dX4_copy_22 : decode cX4_copy 22 = .ok (.iastore, 1) := dk_79 (dk_at dksX4_copy_0 22 rfl rfl)
theorem dX4_copy_23 : decode cX4_copy 23 = .ok (.iinc 4 1, 3) := dk_132 4 1 (dk_at dksX4_copy_1 0 rfl rfl)
theorem dX4_copy_26 : decode cX4_copy 26 = .ok (.goto (-23), 3) := dk_167 255 233 (dk_at dksX4_copy_1 3 rfl rfl)
theorem dX4_copy_29 : decode cX4_copy 29 = .ok (.return_, 1) := dk_177 (dk_at dksX4_copy_1 6 rfl rfl)
abbrev cX4_reads : ByteArray := prog_15_method_27_code
def yX4_reads : MethodName := ⟨RX4, "reads", "(I)I"⟩
def dkwX4_reads_2 : List UInt8 := [17, 0, 169, 7, 28, 104, 96, 27, 7, 112, 96, 46, 182, 0, 119, 172]
abbrev dktX4_reads_2 : List UInt8 := dkwX4_reads_2 ++ []
def dkwX4_reads_1 : List UInt8 := [160, 0, 5, 3, 172, 42, 180, 0, 7, 17, 1, 27, 92, 46, 4, 96, 79, 42, 42, 180, 0, 7]
abbrev dktX4_reads_1 : List UInt8 := dkwX4_reads_1 ++ dktX4_reads_2
def dkwX4_reads_0 : List UInt8 := [27, 184, 0, 113, 154, 0, 10, 42, 4, 27, 182, 0, 103, 172, 42, 27, 7, 108, 182, 0, 116, 61, 28, 2]
abbrev dktX4_reads_0 : List UInt8 := dkwX4_reads_0 ++ dktX4_reads_1
theorem dksX4_reads_0 : cX4_reads.data.toList.drop 0 = dktX4_reads_0 := by decide +kernel
theorem dksX4_reads_1 : cX4_reads.data.toList.drop 24 = dktX4_reads_1 := dk_seg dksX4_reads_0 24 rfl rfl
theorem dksX4_reads_2 : cX4_reads.data.toList.drop 46 = dktX4_reads_2 := dk_seg dksX4_reads_1 22 rfl rfl
theorem dX4_reads_0 : decode cX4_reads 0 = .ok (.iload_n 1, 1) := dk_27 (dk_at dksX4_reads_0 0 rfl rfl)
theorem dX4_reads_1 : decode cX4_reads 1 = .ok (.invokestatic 113, 3) := dk_184 0 113 (dk_at dksX4_reads_0 1 rfl rfl)
theorem dX4_reads_4 : decode cX4_reads 4 = .ok (.ifCond .ne 10, 3) := dk_154 0 10 (dk_at dksX4_reads_0 4 rfl rfl)
theorem dX4_reads_7 : decode cX4_reads 7 = .ok (.aload_n 0, 1) := dk_42 (dk_at dksX4_reads_0 7 rfl rfl)
theorem dX4_reads_8 : decode cX4_reads 8 = .ok (.iconst 1, 1) := dk_4 (dk_at dksX4_reads_0 8 rfl rfl)
theorem dX4_reads_9 : decode cX4_reads 9 = .ok (.iload_n 1, 1) := dk_27 (dk_at dksX4_reads_0 9 rfl rfl)
theorem dX4_reads_10 : decode cX4_reads 10 = .ok (.invokevirtual 103, 3) := dk_182 0 103 (dk_at dksX4_reads_0 10 rfl rfl)
theorem dX4_reads_13 : decode cX4_reads 13 = .ok (.ireturn, 1) := dk_172 (dk_at dksX4_reads_0 13 rfl rfl)
theorem dX4_reads_14 : decode cX4_reads 14 = .ok (.aload_n 0, 1) := dk_42 (dk_at dksX4_reads_0 14 rfl rfl)
theorem dX4_reads_15 : decode cX4_reads 15 = .ok (.iload_n 1, 1) := dk_27 (dk_at dksX4_reads_0 15 rfl rfl)
theorem dX4_reads_16 : decode cX4_reads 16 = .ok (.iconst 4, 1) := dk_7 (dk_at dksX4_reads_0 16 rfl rfl)
theorem dX4_reads_17 : decode cX4_reads 17 = .ok (.idiv, 1) := dk_108 (dk_at dksX4_reads_0 17 rfl rfl)
theorem dX4_reads_18 : decode cX4_reads 18 = .ok (.invokevirtual 116, 3) := dk_182 0 116 (dk_at dksX4_reads_0 18 rfl rfl)
theorem dX4_reads_21 : decode cX4_reads 21 = .ok (.istore_n 2, 1) := dk_61 (dk_at dksX4_reads_0 21 rfl rfl)
theorem dX4_reads_22 : decode cX4_reads 22 = .ok (.iload_n 2, 1) := dk_28 (dk_at dksX4_reads_0 22 rfl rfl)
theorem dX4_reads_23 : decode cX4_reads 23 = .ok (.iconst (-1), 1) := dk_2 (dk_at dksX4_reads_0 23 rfl rfl)
theorem dX4_reads_24 : decode cX4_reads 24 = .ok (.if_icmp .ne 5, 3) := dk_160 0 5 (dk_at dksX4_reads_1 0 rfl rfl)
theorem dX4_reads_27 : decode cX4_reads 27 = .ok (.iconst 0, 1) := dk_3 (dk_at dksX4_reads_1 3 rfl rfl)
theorem dX4_reads_28 : decode cX4_reads 28 = .ok (.ireturn, 1) := dk_172 (dk_at dksX4_reads_1 4 rfl rfl)
theorem dX4_reads_29 : decode cX4_reads 29 = .ok (.aload_n 0, 1) := dk_42 (dk_at dksX4_reads_1 5 rfl rfl)
theorem dX4_reads_30 : decode cX4_reads 30 = .ok (.getfield 7, 3) := dk_180 0 7 (dk_at dksX4_reads_1 6 rfl rfl)
theorem dX4_reads_33 : decode cX4_reads 33 = .ok (.sipush 283, 3) := dk_17 1 27 (dk_at dksX4_reads_1 9 rfl rfl)
theorem dX4_reads_36 : decode cX4_reads 36 = .ok (.dup2, 1) := dk_92 (dk_at dksX4_reads_1 12 rfl rfl)
theorem dX4_reads_37 : decode cX4_reads 37 = .ok (.iaload, 1) := dk_46 (dk_at dksX4_reads_1 13 rfl rfl)
theorem dX4_reads_38 : decode cX4_reads 38 = .ok (.iconst 1, 1) := dk_4 (dk_at dksX4_reads_1 14 rfl rfl)
theorem dX4_reads_39 : decode cX4_reads 39 = .ok (.iadd, 1) := dk_96 (dk_at dksX4_reads_1 15 rfl rfl)
theorem dX4_reads_40 : decode cX4_reads 40 = .ok (.iastore, 1) := dk_79 (dk_at dksX4_reads_1 16 rfl rfl)
theorem dX4_reads_41 : decode cX4_reads 41 = .ok (.aload_n 0, 1) := dk_42 (dk_at dksX4_reads_1 17 rfl rfl)
theorem dX4_reads_42 : decode cX4_reads 42 = .ok (.aload_n 0, 1) := dk_42 (dk_at dksX4_reads_1 18 rfl rfl)
theorem dX4_reads_43 : decode cX4_reads 43 = .ok (.getfield 7, 3) := dk_180 0 7 (dk_at dksX4_reads_1 19 rfl rfl)
theorem dX4_reads_46 : decode cX4_reads 46 = .ok (.sipush 169, 3) := dk_17 0 169 (dk_at dksX4_reads_2 0 rfl rfl)
theorem dX4_reads_49 : decode cX4_reads 49 = .ok (.iconst 4, 1) := dk_7 (dk_at dksX4_reads_2 3 rfl rfl)
theorem dX4_reads_50 : decode cX4_reads 50 = .ok (.iload_n 2, 1) := dk_28 (dk_at dksX4_reads_2 4 rfl rfl)
theorem dX4_reads_51 : decode cX4_reads 51 = .ok (.imul, 1) := dk_104 (dk_at dksX4_reads_2 5 rfl rfl)
theorem dX4_reads_52 : decode cX4_reads 52 = .ok (.iadd, 1) := dk_96 (dk_at dksX4_reads_2 6 rfl rfl)
theorem dX4_reads_53 : decode cX4_reads 53 = .ok (.iload_n 1, 1) := dk_27 (dk_at dksX4_reads_2 7 rfl rfl)
theorem dX4_reads_54 : decode cX4_reads 54 = .ok (.iconst 4, 1) := dk_7 (dk_at dksX4_reads_2 8 rfl rfl)
theorem dX4_reads_55 : decode cX4_reads 55 = .ok (.irem, 1) := dk_112 (dk_at dksX4_reads_2 9 rfl rfl)
theorem dX4_reads_56 : decode cX4_reads 56 = .ok (.iadd, 1) := dk_96 (dk_at dksX4_reads_2 10 rfl rfl)
theorem dX4_reads_57 : decode cX4_reads 57 = .ok (.iaload, 1) := dk_46 (dk_at dksX4_reads_2 11 rfl rfl)
theorem dX4_reads_58 : decode cX4_reads 58 = .ok (.invokevirtual 119, 3) := dk_182 0 119 (dk_at dksX4_reads_2 12 rfl rfl)
theorem dX4_reads_61 : decode cX4_reads 61 = .ok (.ireturn, 1) := dk_172 (dk_at dksX4_reads_2 15 rfl rfl)
abbrev cX4_isAddress : ByteArray := prog_15_method_11_code
def yX4_isAddress : MethodName := ⟨RX4, "isAddress", "(I)Z"⟩
def dkwX4_isAddress_0 : List UInt8 := [26, 3, 16, 63, 184, 0, 68, 172]
abbrev dktX4_isAddress_0 : List UInt8 := dkwX4_isAddress_0 ++ []
theorem dksX4_isAddress_0 : cX4_isAddress.data.toList.drop 0 = dktX4_isAddress_0 := by decide +kernel
theorem dX4_isAddress_0 : decode cX4_isAddress 0 = .ok (.iload_n 0, 1) := dk_26 (dk_at dksX4_isAddress_0 0 rfl rfl)
theorem dX4_isAddress_1 : decode cX4_isAddress 1 = .ok (.iconst 0, 1) := dk_3 (dk_at dksX4_isAddress_0 1 rfl rfl)
theorem dX4_isAddress_2 : decode cX4_isAddress 2 = .ok (.bipush 63, 2) := dk_16 63 (dk_at dksX4_isAddress_0 2 rfl rfl)
theorem dX4_isAddress_4 : decode cX4_isAddress 4 = .ok (.invokestatic 68, 3) := dk_184 0 68 (dk_at dksX4_isAddress_0 4 rfl rfl)
theorem dX4_isAddress_7 : decode cX4_isAddress 7 = .ok (.ireturn, 1) := dk_172 (dk_at dksX4_isAddress_0 7 rfl rfl)
abbrev cX4_in : ByteArray := prog_15_method_3_code
def yX4_in : MethodName := ⟨RX4, "in", "(III)Z"⟩
def dkwX4_in_0 : List UInt8 := [26, 27, 161, 0, 12, 26, 28, 163, 0, 7, 4, 167, 0, 4, 3, 172]
abbrev dktX4_in_0 : List UInt8 := dkwX4_in_0 ++ []
theorem dksX4_in_0 : cX4_in.data.toList.drop 0 = dktX4_in_0 := by decide +kernel
theorem dX4_in_0 : decode cX4_in 0 = .ok (.iload_n 0, 1) := dk_26 (dk_at dksX4_in_0 0 rfl rfl)
theorem dX4_in_1 : decode cX4_in 1 = .ok (.iload_n 1, 1) := dk_27 (dk_at dksX4_in_0 1 rfl rfl)
theorem dX4_in_2 : decode cX4_in 2 = .ok (.if_icmp .lt 12, 3) := dk_161 0 12 (dk_at dksX4_in_0 2 rfl rfl)
theorem dX4_in_5 : decode cX4_in 5 = .ok (.iload_n 0, 1) := dk_26 (dk_at dksX4_in_0 5 rfl rfl)
theorem dX4_in_6 : decode cX4_in 6 = .ok (.iload_n 2, 1) := dk_28 (dk_at dksX4_in_0 6 rfl rfl)
theorem dX4_in_7 : decode cX4_in 7 = .ok (.if_icmp .gt 7, 3) := dk_163 0 7 (dk_at dksX4_in_0 7 rfl rfl)
theorem dX4_in_10 : decode cX4_in 10 = .ok (.iconst 1, 1) := dk_4 (dk_at dksX4_in_0 10 rfl rfl)
theorem dX4_in_11 : decode cX4_in 11 = .ok (.goto 4, 3) := dk_167 0 4 (dk_at dksX4_in_0 11 rfl rfl)
theorem dX4_in_14 : decode cX4_in 14 = .ok (.iconst 0, 1) := dk_3 (dk_at dksX4_in_0 14 rfl rfl)
theorem dX4_in_15 : decode cX4_in 15 = .ok (.ireturn, 1) := dk_172 (dk_at dksX4_in_0 15 rfl rfl)
abbrev cX4_refused : ByteArray := prog_15_method_6_code
def yX4_refused : MethodName := ⟨RX4, "refused", "(II)I"⟩
def dkwX4_refused_1 : List UInt8 := [182, 0, 57, 172]
abbrev dktX4_refused_1 : List UInt8 := dkwX4_refused_1 ++ []
def dkwX4_refused_0 : List UInt8 := [42, 27, 181, 0, 45, 42, 28, 181, 0, 48, 42, 3, 181, 0, 51, 42, 3, 181, 0, 54, 42, 4]
abbrev dktX4_refused_0 : List UInt8 := dkwX4_refused_0 ++ dktX4_refused_1
theorem dksX4_refused_0 : cX4_refused.data.toList.drop 0 = dktX4_refused_0 := by decide +kernel
theorem dksX4_refused_1 : cX4_refused.data.toList.drop 22 = dktX4_refused_1 := dk_seg dksX4_refused_0 22 rfl rfl
theorem dX4_refused_0 : decode cX4_refused 0 = .ok (.aload_n 0, 1) := dk_42 (dk_at dksX4_refused_0 0 rfl rfl)
theorem dX4_refused_1 : decode cX4_refused 1 = .ok (.iload_n 1, 1) := dk_27 (dk_at dksX4_refused_0 1 rfl rfl)
theorem dX4_refused_2 : decode cX4_refused 2 = .ok (.putfield 45, 3) := dk_181 0 45 (dk_at dksX4_refused_0 2 rfl rfl)
theorem dX4_refused_5 : decode cX4_refused 5 = .ok (.aload_n 0, 1) := dk_42 (dk_at dksX4_refused_0 5 rfl rfl)
theorem dX4_refused_6 : decode cX4_refused 6 = .ok (.iload_n 2, 1) := dk_28 (dk_at dksX4_refused_0 6 rfl rfl)
theorem dX4_refused_7 : decode cX4_refused 7 = .ok (.putfield 48, 3) := dk_181 0 48 (dk_at dksX4_refused_0 7 rfl rfl)
theorem dX4_refused_10 : decode cX4_refused 10 = .ok (.aload_n 0, 1) := dk_42 (dk_at dksX4_refused_0 10 rfl rfl)
theorem dX4_refused_11 : decode cX4_refused 11 = .ok (.iconst 0, 1) := dk_3 (dk_at dksX4_refused_0 11 rfl rfl)
theorem dX4_refused_12 : decode cX4_refused 12 = .ok (.putfield 51, 3) := dk_181 0 51 (dk_at dksX4_refused_0 12 rfl rfl)
theorem dX4_refused_15 : decode cX4_refused 15 = .ok (.aload_n 0, 1) := dk_42 (dk_at dksX4_refused_0 15 rfl rfl)
theorem dX4_refused_16 : decode cX4_refused 16 = .ok (.iconst 0, 1) := dk_3 (dk_at dksX4_refused_0 16 rfl rfl)
theorem dX4_refused_17 : decode cX4_refused 17 = .ok (.putfield 54, 3) := dk_181 0 54 (dk_at dksX4_refused_0 17 rfl rfl)
theorem dX4_refused_20 : decode cX4_refused 20 = .ok (.aload_n 0, 1) := dk_42 (dk_at dksX4_refused_0 20 rfl rfl)
theorem dX4_refused_21 : decode cX4_refused 21 = .ok (.iconst 1, 1) := dk_4 (dk_at dksX4_refused_0 21 rfl rfl)
theorem dX4_refused_22 : decode cX4_refused 22 = .ok (.invokevirtual 57, 3) := dk_182 0 57 (dk_at dksX4_refused_1 0 rfl rfl)
theorem dX4_refused_25 : decode cX4_refused 25 = .ok (.ireturn, 1) := dk_172 (dk_at dksX4_refused_1 3 rfl rfl)
abbrev cX4_fails : ByteArray := prog_15_method_5_code
def yX4_fails : MethodName := ⟨RX4, "fails", "(I)I"⟩
def dkwX4_fails_0 : List UInt8 := [42, 27, 181, 0, 42, 3, 172]
abbrev dktX4_fails_0 : List UInt8 := dkwX4_fails_0 ++ []
theorem dksX4_fails_0 : cX4_fails.data.toList.drop 0 = dktX4_fails_0 := by decide +kernel
theorem dX4_fails_0 : decode cX4_fails 0 = .ok (.aload_n 0, 1) := dk_42 (dk_at dksX4_fails_0 0 rfl rfl)
theorem dX4_fails_1 : decode cX4_fails 1 = .ok (.iload_n 1, 1) := dk_27 (dk_at dksX4_fails_0 1 rfl rfl)
theorem dX4_fails_2 : decode cX4_fails 2 = .ok (.putfield 42, 3) := dk_181 0 42 (dk_at dksX4_fails_0 2 rfl rfl)
theorem dX4_fails_5 : decode cX4_fails 5 = .ok (.iconst 0, 1) := dk_3 (dk_at dksX4_fails_0 5 rfl rfl)
theorem dX4_fails_6 : decode cX4_fails 6 = .ok (.ireturn, 1) := dk_172 (dk_at dksX4_fails_0 6 rfl rfl)
abbrev cX4_accesses : ByteArray := prog_15_method_26_code
def yX4_accesses : MethodName := ⟨RX4, "accesses", "(I)I"⟩
def dkwX4_accesses_5 : List UInt8 := [42, 27, 182, 0, 110, 28, 172]
abbrev dktX4_accesses_5 : List UInt8 := dkwX4_accesses_5 ++ []
def dkwX4_accesses_4 : List UInt8 := [17, 0, 153, 28, 96, 92, 46, 4, 96, 79, 42, 180, 0, 7, 17, 0, 251, 27, 96, 92, 46, 4, 96, 79]
abbrev dktX4_accesses_4 : List UInt8 := dkwX4_accesses_4 ++ dktX4_accesses_5
def dkwX4_accesses_3 : List UInt8 := [2, 172, 42, 27, 28, 182, 0, 107, 42, 180, 0, 7, 16, 121, 28, 96, 29, 79, 42, 180, 0, 7]
abbrev dktX4_accesses_3 : List UInt8 := dkwX4_accesses_3 ++ dktX4_accesses_4
def dkwX4_accesses_2 : List UInt8 := [182, 0, 100, 61, 28, 2, 160, 0, 20, 42, 5, 27, 42, 180, 0, 7, 4, 46, 112, 182, 0, 103, 54, 4]
abbrev dktX4_accesses_2 : List UInt8 := dkwX4_accesses_2 ++ dktX4_accesses_3
def dkwX4_accesses_1 : List UInt8 := [17, 1, 29, 92, 46, 4, 96, 79, 42, 180, 0, 7, 3, 92, 46, 4, 96, 79, 167, 0, 37, 42, 27]
abbrev dktX4_accesses_1 : List UInt8 := dkwX4_accesses_1 ++ dktX4_accesses_2
def dkwX4_accesses_0 : List UInt8 := [42, 27, 182, 0, 97, 61, 42, 180, 0, 7, 3, 46, 62, 28, 2, 159, 0, 28, 42, 180, 0, 7]
abbrev dktX4_accesses_0 : List UInt8 := dkwX4_accesses_0 ++ dktX4_accesses_1
theorem dksX4_accesses_0 : cX4_accesses.data.toList.drop 0 = dktX4_accesses_0 := by decide +kernel
theorem dksX4_accesses_1 : cX4_accesses.data.toList.drop 22 = dktX4_accesses_1 := dk_seg dksX4_accesses_0 22 rfl rfl
theorem dksX4_accesses_2 : cX4_accesses.data.toList.drop 45 = dktX4_accesses_2 := dk_seg dksX4_accesses_1 23 rfl rfl
theorem dksX4_accesses_3 : cX4_accesses.data.toList.drop 69 = dktX4_accesses_3 := dk_seg dksX4_accesses_2 24 rfl rfl
theorem dksX4_accesses_4 : cX4_accesses.data.toList.drop 91 = dktX4_accesses_4 := dk_seg dksX4_accesses_3 22 rfl rfl
theorem dksX4_accesses_5 : cX4_accesses.data.toList.drop 115 = dktX4_accesses_5 := dk_seg dksX4_accesses_4 24 rfl rfl
theorem dX4_accesses_0 : decode cX4_accesses 0 = .ok (.aload_n 0, 1) := dk_42 (dk_at dksX4_accesses_0 0 rfl rfl)
theorem dX4_accesses_1 : decode cX4_accesses 1 = .ok (.iload_n 1, 1) := dk_27 (dk_at dksX4_accesses_0 1 rfl rfl)
theorem dX4_accesses_2 : decode cX4_accesses 2 = .ok (.invokevirtual 97, 3) := dk_182 0 97 (dk_at dksX4_accesses_0 2 rfl rfl)
theorem dX4_accesses_5 : decode cX4_accesses 5 = .ok (.istore_n 2, 1) := dk_61 (dk_at dksX4_accesses_0 5 rfl rfl)
theorem dX4_accesses_6 : decode cX4_accesses 6 = .ok (.aload_n 0, 1) := dk_42 (dk_at dksX4_accesses_0 6 rfl rfl)
theorem dX4_accesses_7 : decode cX4_accesses 7 = .ok (.getfield 7, 3) := dk_180 0 7 (dk_at dksX4_accesses_0 7 rfl rfl)
theorem dX4_accesses_10 : decode cX4_accesses 10 = .ok (.iconst 0, 1) := dk_3 (dk_at dksX4_accesses_0 10 rfl rfl)
theorem dX4_accesses_11 : decode cX4_accesses 11 = .ok (.iaload, 1) := dk_46 (dk_at dksX4_accesses_0 11 rfl rfl)
theorem dX4_accesses_12 : decode cX4_accesses 12 = .ok (.istore_n 3, 1) := dk_62 (dk_at dksX4_accesses_0 12 rfl rfl)
theorem dX4_accesses_13 : decode cX4_accesses 13 = .ok (.iload_n 2, 1) := dk_28 (dk_at dksX4_accesses_0 13 rfl rfl)
theorem dX4_accesses_14 : decode cX4_accesses 14 = .ok (.iconst (-1), 1) := dk_2 (dk_at dksX4_accesses_0 14 rfl rfl)
theorem dX4_accesses_15 : decode cX4_accesses 15 = .ok (.if_icmp .eq 28, 3) := dk_159 0 28 (dk_at dksX4_accesses_0 15 rfl rfl)
theorem dX4_accesses_18 : decode cX4_accesses 18 = .ok (.aload_n 0, 1) := dk_42 (dk_at dksX4_accesses_0 18 rfl rfl)
theorem dX4_accesses_19 : decode cX4_accesses 19 = .ok (.getfield 7, 3) := dk_180 0 7 (dk_at dksX4_accesses_0 19 rfl rfl)
theorem dX4_accesses_22 : decode cX4_accesses 22 = .ok (.sipush 285, 3) := dk_17 1 29 (dk_at dksX4_accesses_1 0 rfl rfl)
theorem dX4_accesses_25 : decode cX4_accesses 25 = .ok (.dup2, 1) := dk_92 (dk_at dksX4_accesses_1 3 rfl rfl)
theorem dX4_accesses_26 : decode cX4_accesses 26 = .ok (.iaload, 1) := dk_46 (dk_at dksX4_accesses_1 4 rfl rfl)
theorem dX4_accesses_27 : decode cX4_accesses 27 = .ok (.iconst 1, 1) := dk_4 (dk_at dksX4_accesses_1 5 rfl rfl)
theorem dX4_accesses_28 : decode cX4_accesses 28 = .ok (.iadd, 1) := dk_96 (dk_at dksX4_accesses_1 6 rfl rfl)
theorem dX4_accesses_29 : decode cX4_accesses 29 = .ok (.iastore, 1) := dk_79 (dk_at dksX4_accesses_1 7 rfl rfl)
theorem dX4_accesses_30 : decode cX4_accesses 30 = .ok (.aload_n 0, 1) := dk_42 (dk_at dksX4_accesses_1 8 rfl rfl)
theorem dX4_accesses_31 : decode cX4_accesses 31 = .ok (.getfield 7, 3) := dk_180 0 7 (dk_at dksX4_accesses_1 9 rfl rfl)
theorem dX4_accesses_34 : decode cX4_accesses 34 = .ok (.iconst 0, 1) := dk_3 (dk_at dksX4_accesses_1 12 rfl rfl)
theorem dX4_accesses_35 : decode cX4_accesses 35 = .ok (.dup2, 1) := dk_92 (dk_at dksX4_accesses_1 13 rfl rfl)
theorem dX4_accesses_36 : decode cX4_accesses 36 = .ok (.iaload, 1) := dk_46 (dk_at dksX4_accesses_1 14 rfl rfl)
theorem dX4_accesses_37 : decode cX4_accesses 37 = .ok (.iconst 1, 1) := dk_4 (dk_at dksX4_accesses_1 15 rfl rfl)
theorem dX4_accesses_38 : decode cX4_accesses 38 = .ok (.iadd, 1) := dk_96 (dk_at dksX4_accesses_1 16 rfl rfl)
theorem dX4_accesses_39 : decode cX4_accesses 39 = .ok (.iastore, 1) := dk_79 (dk_at dksX4_accesses_1 17 rfl rfl)
theorem dX4_accesses_40 : decode cX4_accesses 40 = .ok (.goto 37, 3) := dk_167 0 37 (dk_at dksX4_accesses_1 18 rfl rfl)
theorem dX4_accesses_43 : decode cX4_accesses 43 = .ok (.aload_n 0, 1) := dk_42 (dk_at dksX4_accesses_1 21 rfl rfl)
theorem dX4_accesses_44 : decode cX4_accesses 44 = .ok (.iload_n 1, 1) := dk_27 (dk_at dksX4_accesses_1 22 rfl rfl)
theorem dX4_accesses_45 : decode cX4_accesses 45 = .ok (.invokevirtual 100, 3) := dk_182 0 100 (dk_at dksX4_accesses_2 0 rfl rfl)
theorem dX4_accesses_48 : decode cX4_accesses 48 = .ok (.istore_n 2, 1) := dk_61 (dk_at dksX4_accesses_2 3 rfl rfl)
theorem dX4_accesses_49 : decode cX4_accesses 49 = .ok (.iload_n 2, 1) := dk_28 (dk_at dksX4_accesses_2 4 rfl rfl)
theorem dX4_accesses_50 : decode cX4_accesses 50 = .ok (.iconst (-1), 1) := dk_2 (dk_at dksX4_accesses_2 5 rfl rfl)
theorem dX4_accesses_51 : decode cX4_accesses 51 = .ok (.if_icmp .ne 20, 3) := dk_160 0 20 (dk_at dksX4_accesses_2 6 rfl rfl)
theorem dX4_accesses_54 : decode cX4_accesses 54 = .ok (.aload_n 0, 1) := dk_42 (dk_at dksX4_accesses_2 9 rfl rfl)
theorem dX4_accesses_55 : decode cX4_accesses 55 = .ok (.iconst 2, 1) := dk_5 (dk_at dksX4_accesses_2 10 rfl rfl)
theorem dX4_accesses_56 : decode cX4_accesses 56 = .ok (.iload_n 1, 1) := dk_27 (dk_at dksX4_accesses_2 11 rfl rfl)
theorem dX4_accesses_57 : decode cX4_accesses 57 = .ok (.aload_n 0, 1) := dk_42 (dk_at dksX4_accesses_2 12 rfl rfl)
theorem dX4_accesses_58 : decode cX4_accesses 58 = .ok (.getfield 7, 3) := dk_180 0 7 (dk_at dksX4_accesses_2 13 rfl rfl)
theorem dX4_accesses_61 : decode cX4_accesses 61 = .ok (.iconst 1, 1) := dk_4 (dk_at dksX4_accesses_2 16 rfl rfl)
theorem dX4_accesses_62 : decode cX4_accesses 62 = .ok (.iaload, 1) := dk_46 (dk_at dksX4_accesses_2 17 rfl rfl)
theorem dX4_accesses_63 : decode cX4_accesses 63 = .ok (.irem, 1) := dk_112 (dk_at dksX4_accesses_2 18 rfl rfl)
theorem dX4_accesses_64 : decode cX4_accesses 64 = .ok (.invokevirtual 103, 3) := dk_182 0 103 (dk_at dksX4_accesses_2 19 rfl rfl)
theorem dX4_accesses_67 : decode cX4_accesses 67 = .ok (.istore 4, 2) := dk_54 4 (dk_at dksX4_accesses_2 22 rfl rfl)
theorem dX4_accesses_69 : decode cX4_accesses 69 = .ok (.iconst (-1), 1) := dk_2 (dk_at dksX4_accesses_3 0 rfl rfl)
theorem dX4_accesses_70 : decode cX4_accesses 70 = .ok (.ireturn, 1) := dk_172 (dk_at dksX4_accesses_3 1 rfl rfl)
theorem dX4_accesses_71 : decode cX4_accesses 71 = .ok (.aload_n 0, 1) := dk_42 (dk_at dksX4_accesses_3 2 rfl rfl)
theorem dX4_accesses_72 : decode cX4_accesses 72 = .ok (.iload_n 1, 1) := dk_27 (dk_at dksX4_accesses_3 3 rfl rfl)
theorem dX4_accesses_73 : decode cX4_accesses 73 = .ok (.iload_n 2, 1) := dk_28 (dk_at dksX4_accesses_3 4 rfl rfl)
theorem dX4_accesses_74 : decode cX4_accesses 74 = .ok (.invokevirtual 107, 3) := dk_182 0 107 (dk_at dksX4_accesses_3 5 rfl rfl)
theorem dX4_accesses_77 : decode cX4_accesses 77 = .ok (.aload_n 0, 1) := dk_42 (dk_at dksX4_accesses_3 8 rfl rfl)
theorem dX4_accesses_78 : decode cX4_accesses 78 = .ok (.getfield 7, 3) := dk_180 0 7 (dk_at dksX4_accesses_3 9 rfl rfl)
theorem dX4_accesses_81 : decode cX4_accesses 81 = .ok (.bipush 121, 2) := dk_16 121 (dk_at dksX4_accesses_3 12 rfl rfl)
theorem dX4_accesses_83 : decode cX4_accesses 83 = .ok (.iload_n 2, 1) := dk_28 (dk_at dksX4_accesses_3 14 rfl rfl)
theorem dX4_accesses_84 : decode cX4_accesses 84 = .ok (.iadd, 1) := dk_96 (dk_at dksX4_accesses_3 15 rfl rfl)
theorem dX4_accesses_85 : decode cX4_accesses 85 = .ok (.iload_n 3, 1) := dk_29 (dk_at dksX4_accesses_3 16 rfl rfl)
theorem dX4_accesses_86 : decode cX4_accesses 86 = .ok (.iastore, 1) := dk_79 (dk_at dksX4_accesses_3 17 rfl rfl)
theorem dX4_accesses_87 : decode cX4_accesses 87 = .ok (.aload_n 0, 1) := dk_42 (dk_at dksX4_accesses_3 18 rfl rfl)
theorem dX4_accesses_88 : decode cX4_accesses 88 = .ok (.getfield 7, 3) := dk_180 0 7 (dk_at dksX4_accesses_3 19 rfl rfl)
theorem dX4_accesses_91 : decode cX4_accesses 91 = .ok (.sipush 153, 3) := dk_17 0 153 (dk_at dksX4_accesses_4 0 rfl rfl)
theorem dX4_accesses_94 : decode cX4_accesses 94 = .ok (.iload_n 2, 1) := dk_28 (dk_at dksX4_accesses_4 3 rfl rfl)
theorem dX4_accesses_95 : decode cX4_accesses 95 = .ok (.iadd, 1) := dk_96 (dk_at dksX4_accesses_4 4 rfl rfl)
theorem dX4_accesses_96 : decode cX4_accesses 96 = .ok (.dup2, 1) := dk_92 (dk_at dksX4_accesses_4 5 rfl rfl)
theorem dX4_accesses_97 : decode cX4_accesses 97 = .ok (.iaload, 1) := dk_46 (dk_at dksX4_accesses_4 6 rfl rfl)
theorem dX4_accesses_98 : decode cX4_accesses 98 = .ok (.iconst 1, 1) := dk_4 (dk_at dksX4_accesses_4 7 rfl rfl)
theorem dX4_accesses_99 : decode cX4_accesses 99 = .ok (.iadd, 1) := dk_96 (dk_at dksX4_accesses_4 8 rfl rfl)
theorem dX4_accesses_100 : decode cX4_accesses 100 = .ok (.iastore, 1) := dk_79 (dk_at dksX4_accesses_4 9 rfl rfl)
theorem dX4_accesses_101 : decode cX4_accesses 101 = .ok (.aload_n 0, 1) := dk_42 (dk_at dksX4_accesses_4 10 rfl rfl)
theorem dX4_accesses_102 : decode cX4_accesses 102 = .ok (.getfield 7, 3) := dk_180 0 7 (dk_at dksX4_accesses_4 11 rfl rfl)
theorem dX4_accesses_105 : decode cX4_accesses 105 = .ok (.sipush 251, 3) := dk_17 0 251 (dk_at dksX4_accesses_4 14 rfl rfl)
theorem dX4_accesses_108 : decode cX4_accesses 108 = .ok (.iload_n 1, 1) := dk_27 (dk_at dksX4_accesses_4 17 rfl rfl)
theorem dX4_accesses_109 : decode cX4_accesses 109 = .ok (.iadd, 1) := dk_96 (dk_at dksX4_accesses_4 18 rfl rfl)
theorem dX4_accesses_110 : decode cX4_accesses 110 = .ok (.dup2, 1) := dk_92 (dk_at dksX4_accesses_4 19 rfl rfl)
theorem dX4_accesses_111 : decode cX4_accesses 111 = .ok (.iaload, 1) := dk_46 (dk_at dksX4_accesses_4 20 rfl rfl)
theorem dX4_accesses_112 : decode cX4_accesses 112 = .ok (.iconst 1, 1) := dk_4 (dk_at dksX4_accesses_4 21 rfl rfl)
theorem dX4_accesses_113 : decode cX4_accesses 113 = .ok (.iadd, 1) := dk_96 (dk_at dksX4_accesses_4 22 rfl rfl)
theorem dX4_accesses_114 : decode cX4_accesses 114 = .ok (.iastore, 1) := dk_79 (dk_at dksX4_accesses_4 23 rfl rfl)
theorem dX4_accesses_115 : decode cX4_accesses 115 = .ok (.aload_n 0, 1) := dk_42 (dk_at dksX4_accesses_5 0 rfl rfl)
theorem dX4_accesses_116 : decode cX4_accesses 116 = .ok (.iload_n 1, 1) := dk_27 (dk_at dksX4_accesses_5 1 rfl rfl)
theorem dX4_accesses_117 : decode cX4_accesses 117 = .ok (.invokevirtual 110, 3) := dk_182 0 110 (dk_at dksX4_accesses_5 2 rfl rfl)
theorem dX4_accesses_120 : decode cX4_accesses 120 = .ok (.iload_n 2, 1) := dk_28 (dk_at dksX4_accesses_5 5 rfl rfl)
theorem dX4_accesses_121 : decode cX4_accesses 121 = .ok (.ireturn, 1) := dk_172 (dk_at dksX4_accesses_5 6 rfl rfl)
abbrev cX4_lineWith : ByteArray := prog_15_method_16_code
def yX4_lineWith : MethodName := ⟨RX4, "lineWith", "(I)I"⟩
def dkwX4_lineWith_1 : List UInt8 := [132, 2, 1, 167, 255, 232, 2, 172]
abbrev dktX4_lineWith_1 : List UInt8 := dkwX4_lineWith_1 ++ []
def dkwX4_lineWith_0 : List UInt8 := [3, 61, 28, 16, 16, 162, 0, 24, 42, 180, 0, 7, 16, 73, 28, 96, 46, 27, 160, 0, 5, 28, 172]
abbrev dktX4_lineWith_0 : List UInt8 := dkwX4_lineWith_0 ++ dktX4_lineWith_1
theorem dksX4_lineWith_0 : cX4_lineWith.data.toList.drop 0 = dktX4_lineWith_0 := by decide +kernel
theorem dksX4_lineWith_1 : cX4_lineWith.data.toList.drop 23 = dktX4_lineWith_1 := dk_seg dksX4_lineWith_0 23 rfl rfl
theorem dX4_lineWith_0 : decode cX4_lineWith 0 = .ok (.iconst 0, 1) := dk_3 (dk_at dksX4_lineWith_0 0 rfl rfl)
theorem dX4_lineWith_1 : decode cX4_lineWith 1 = .ok (.istore_n 2, 1) := dk_61 (dk_at dksX4_lineWith_0 1 rfl rfl)
theorem dX4_lineWith_2 : decode cX4_lineWith 2 = .ok (.iload_n 2, 1) := dk_28 (dk_at dksX4_lineWith_0 2 rfl rfl)
theorem dX4_lineWith_3 : decode cX4_lineWith 3 = .ok (.bipush 16, 2) := dk_16 16 (dk_at dksX4_lineWith_0 3 rfl rfl)
theorem dX4_lineWith_5 : decode cX4_lineWith 5 = .ok (.if_icmp .ge 24, 3) := dk_162 0 24 (dk_at dksX4_lineWith_0 5 rfl rfl)
theorem dX4_lineWith_8 : decode cX4_lineWith 8 = .ok (.aload_n 0, 1) := dk_42 (dk_at dksX4_lineWith_0 8 rfl rfl)
theorem dX4_lineWith_9 : decode cX4_lineWith 9 = .ok (.getfield 7, 3) := dk_180 0 7 (dk_at dksX4_lineWith_0 9 rfl rfl)
theorem dX4_lineWith_12 : decode cX4_lineWith 12 = .ok (.bipush 73, 2) := dk_16 73 (dk_at dksX4_lineWith_0 12 rfl rfl)
theorem dX4_lineWith_14 : decode cX4_lineWith 14 = .ok (.iload_n 2, 1) := dk_28 (dk_at dksX4_lineWith_0 14 rfl rfl)
theorem dX4_lineWith_15 : decode cX4_lineWith 15 = .ok (.iadd, 1) := dk_96 (dk_at dksX4_lineWith_0 15 rfl rfl)
theorem dX4_lineWith_16 : decode cX4_lineWith 16 = .ok (.iaload, 1) := dk_46 (dk_at dksX4_lineWith_0 16 rfl rfl)
theorem dX4_lineWith_17 : decode cX4_lineWith 17 = .ok (.iload_n 1, 1) := dk_27 (dk_at dksX4_lineWith_0 17 rfl rfl)
theorem dX4_lineWith_18 : decode cX4_lineWith 18 = .ok (.if_icmp .ne 5, 3) := dk_160 0 5 (dk_at dksX4_lineWith_0 18 rfl rfl)
theorem dX4_lineWith_21 : decode cX4_lineWith 21 = .ok (.iload_n 2, 1) := dk_28 (dk_at dksX4_lineWith_0 21 rfl rfl)
theorem dX4_lineWith_22 : decode cX4_lineWith 22 = .ok (.ireturn, 1) := dk_172 (dk_at dksX4_lineWith_0 22 rfl rfl)
theorem dX4_lineWith_23 : decode cX4_lineWith 23 = .ok (.iinc 2 1, 3) := dk_132 2 1 (dk_at dksX4_lineWith_1 0 rfl rfl)
theorem dX4_lineWith_26 : decode cX4_lineWith 26 = .ok (.goto (-24), 3) := dk_167 255 232 (dk_at dksX4_lineWith_1 3 rfl rfl)
theorem dX4_lineWith_29 : decode cX4_lineWith 29 = .ok (.iconst (-1), 1) := dk_2 (dk_at dksX4_lineWith_1 6 rfl rfl)
theorem dX4_lineWith_30 : decode cX4_lineWith 30 = .ok (.ireturn, 1) := dk_172 (dk_at dksX4_lineWith_1 7 rfl rfl)
abbrev cX4_lineFor : ByteArray := prog_15_method_19_code
def yX4_lineFor : MethodName := ⟨RX4, "lineFor", "(I)I"⟩
def dkwX4_lineFor_3 : List UInt8 := [21, 4, 167, 0, 4, 29, 62, 132, 4, 1, 167, 255, 192, 29, 172]
abbrev dktX4_lineFor_3 : List UInt8 := dkwX4_lineFor_3 ++ []
def dkwX4_lineFor_2 : List UInt8 := [21, 4, 182, 0, 79, 153, 0, 23, 29, 2, 159, 0, 13, 42, 21, 4, 29, 182, 0, 83, 153, 0, 8]
abbrev dktX4_lineFor_2 : List UInt8 := dkwX4_lineFor_2 ++ dktX4_lineFor_3
def dkwX4_lineFor_1 : List UInt8 := [46, 96, 162, 0, 57, 42, 180, 0, 7, 16, 73, 21, 4, 96, 46, 2, 160, 0, 6, 21, 4, 172, 42]
abbrev dktX4_lineFor_1 : List UInt8 := dkwX4_lineFor_1 ++ dktX4_lineFor_2
def dkwX4_lineFor_0 : List UInt8 := [7, 27, 42, 180, 0, 7, 4, 46, 112, 104, 61, 2, 62, 28, 54, 4, 21, 4, 28, 42, 180, 0, 7, 5]
abbrev dktX4_lineFor_0 : List UInt8 := dkwX4_lineFor_0 ++ dktX4_lineFor_1
theorem dksX4_lineFor_0 : cX4_lineFor.data.toList.drop 0 = dktX4_lineFor_0 := by decide +kernel
theorem dksX4_lineFor_1 : cX4_lineFor.data.toList.drop 24 = dktX4_lineFor_1 := dk_seg dksX4_lineFor_0 24 rfl rfl
theorem dksX4_lineFor_2 : cX4_lineFor.data.toList.drop 47 = dktX4_lineFor_2 := dk_seg dksX4_lineFor_1 23 rfl rfl
theorem dksX4_lineFor_3 : cX4_lineFor.data.toList.drop 70 = dktX4_lineFor_3 := dk_seg dksX4_lineFor_2 23 rfl rfl
theorem dX4_lineFor_0 : decode cX4_lineFor 0 = .ok (.iconst 4, 1) := dk_7 (dk_at dksX4_lineFor_0 0 rfl rfl)
theorem dX4_lineFor_1 : decode cX4_lineFor 1 = .ok (.iload_n 1, 1) := dk_27 (dk_at dksX4_lineFor_0 1 rfl rfl)
theorem dX4_lineFor_2 : decode cX4_lineFor 2 = .ok (.aload_n 0, 1) := dk_42 (dk_at dksX4_lineFor_0 2 rfl rfl)
theorem dX4_lineFor_3 : decode cX4_lineFor 3 = .ok (.getfield 7, 3) := dk_180 0 7 (dk_at dksX4_lineFor_0 3 rfl rfl)
theorem dX4_lineFor_6 : decode cX4_lineFor 6 = .ok (.iconst 1, 1) := dk_4 (dk_at dksX4_lineFor_0 6 rfl rfl)
theorem dX4_lineFor_7 : decode cX4_lineFor 7 = .ok (.iaload, 1) := dk_46 (dk_at dksX4_lineFor_0 7 rfl rfl)
theorem dX4_lineFor_8 : decode cX4_lineFor 8 = .ok (.irem, 1) := dk_112 (dk_at dksX4_lineFor_0 8 rfl rfl)
theorem dX4_lineFor_9 : decode cX4_lineFor 9 = .ok (.imul, 1) := dk_104 (dk_at dksX4_lineFor_0 9 rfl rfl)
theorem dX4_lineFor_10 : decode cX4_lineFor 10 = .ok (.istore_n 2, 1) := dk_61 (dk_at dksX4_lineFor_0 10 rfl rfl)
theorem dX4_lineFor_11 : decode cX4_lineFor 11 = .ok (.iconst (-1), 1) := dk_2 (dk_at dksX4_lineFor_0 11 rfl rfl)
theorem dX4_lineFor_12 : decode cX4_lineFor 12 = .ok (.istore_n 3, 1) := dk_62 (dk_at dksX4_lineFor_0 12 rfl rfl)
theorem dX4_lineFor_13 : decode cX4_lineFor 13 = .ok (.iload_n 2, 1) := dk_28 (dk_at dksX4_lineFor_0 13 rfl rfl)
theorem dX4_lineFor_14 : decode cX4_lineFor 14 = .ok (.istore 4, 2) := dk_54 4 (dk_at dksX4_lineFor_0 14 rfl rfl)
theorem dX4_lineFor_16 : decode cX4_lineFor 16 = .ok (.iload 4, 2) := dk_21 4 (dk_at dksX4_lineFor_0 16 rfl rfl)
theorem dX4_lineFor_18 : decode cX4_lineFor 18 = .ok (.iload_n 2, 1) := dk_28 (dk_at dksX4_lineFor_0 18 rfl rfl)
theorem dX4_lineFor_19 : decode cX4_lineFor 19 = .ok (.aload_n 0, 1) := dk_42 (dk_at dksX4_lineFor_0 19 rfl rfl)
theorem dX4_lineFor_20 : decode cX4_lineFor 20 = .ok (.getfield 7, 3) := dk_180 0 7 (dk_at dksX4_lineFor_0 20 rfl rfl)
theorem dX4_lineFor_23 : decode cX4_lineFor 23 = .ok (.iconst 2, 1) := dk_5 (dk_at dksX4_lineFor_0 23 rfl rfl)
theorem dX4_lineFor_24 : decode cX4_lineFor 24 = .ok (.iaload, 1) := dk_46 (dk_at dksX4_lineFor_1 0 rfl rfl)
theorem dX4_lineFor_25 : decode cX4_lineFor 25 = .ok (.iadd, 1) := dk_96 (dk_at dksX4_lineFor_1 1 rfl rfl)
theorem dX4_lineFor_26 : decode cX4_lineFor 26 = .ok (.if_icmp .ge 57, 3) := dk_162 0 57 (dk_at dksX4_lineFor_1 2 rfl rfl)
theorem dX4_lineFor_29 : decode cX4_lineFor 29 = .ok (.aload_n 0, 1) := dk_42 (dk_at dksX4_lineFor_1 5 rfl rfl)
theorem dX4_lineFor_30 : decode cX4_lineFor 30 = .ok (.getfield 7, 3) := dk_180 0 7 (dk_at dksX4_lineFor_1 6 rfl rfl)
theorem dX4_lineFor_33 : decode cX4_lineFor 33 = .ok (.bipush 73, 2) := dk_16 73 (dk_at dksX4_lineFor_1 9 rfl rfl)
theorem dX4_lineFor_35 : decode cX4_lineFor 35 = .ok (.iload 4, 2) := dk_21 4 (dk_at dksX4_lineFor_1 11 rfl rfl)
theorem dX4_lineFor_37 : decode cX4_lineFor 37 = .ok (.iadd, 1) := dk_96 (dk_at dksX4_lineFor_1 13 rfl rfl)
theorem dX4_lineFor_38 : decode cX4_lineFor 38 = .ok (.iaload, 1) := dk_46 (dk_at dksX4_lineFor_1 14 rfl rfl)
theorem dX4_lineFor_39 : decode cX4_lineFor 39 = .ok (.iconst (-1), 1) := dk_2 (dk_at dksX4_lineFor_1 15 rfl rfl)
theorem dX4_lineFor_40 : decode cX4_lineFor 40 = .ok (.if_icmp .ne 6, 3) := dk_160 0 6 (dk_at dksX4_lineFor_1 16 rfl rfl)
theorem dX4_lineFor_43 : decode cX4_lineFor 43 = .ok (.iload 4, 2) := dk_21 4 (dk_at dksX4_lineFor_1 19 rfl rfl)
theorem dX4_lineFor_45 : decode cX4_lineFor 45 = .ok (.ireturn, 1) := dk_172 (dk_at dksX4_lineFor_1 21 rfl rfl)
theorem dX4_lineFor_46 : decode cX4_lineFor 46 = .ok (.aload_n 0, 1) := dk_42 (dk_at dksX4_lineFor_1 22 rfl rfl)
theorem dX4_lineFor_47 : decode cX4_lineFor 47 = .ok (.iload 4, 2) := dk_21 4 (dk_at dksX4_lineFor_2 0 rfl rfl)
theorem dX4_lineFor_49 : decode cX4_lineFor 49 = .ok (.invokevirtual 79, 3) := dk_182 0 79 (dk_at dksX4_lineFor_2 2 rfl rfl)
theorem dX4_lineFor_52 : decode cX4_lineFor 52 = .ok (.ifCond .eq 23, 3) := dk_153 0 23 (dk_at dksX4_lineFor_2 5 rfl rfl)
theorem dX4_lineFor_55 : decode cX4_lineFor 55 = .ok (.iload_n 3, 1) := dk_29 (dk_at dksX4_lineFor_2 8 rfl rfl)
theorem dX4_lineFor_56 : decode cX4_lineFor 56 = .ok (.iconst (-1), 1) := dk_2 (dk_at dksX4_lineFor_2 9 rfl rfl)
theorem dX4_lineFor_57 : decode cX4_lineFor 57 = .ok (.if_icmp .eq 13, 3) := dk_159 0 13 (dk_at dksX4_lineFor_2 10 rfl rfl)
theorem dX4_lineFor_60 : decode cX4_lineFor 60 = .ok (.aload_n 0, 1) := dk_42 (dk_at dksX4_lineFor_2 13 rfl rfl)
theorem dX4_lineFor_61 : decode cX4_lineFor 61 = .ok (.iload 4, 2) := dk_21 4 (dk_at dksX4_lineFor_2 14 rfl rfl)
theorem dX4_lineFor_63 : decode cX4_lineFor 63 = .ok (.iload_n 3, 1) := dk_29 (dk_at dksX4_lineFor_2 16 rfl rfl)
theorem dX4_lineFor_64 : decode cX4_lineFor 64 = .ok (.invokevirtual 83, 3) := dk_182 0 83 (dk_at dksX4_lineFor_2 17 rfl rfl)
theorem dX4_lineFor_67 : decode cX4_lineFor 67 = .ok (.ifCond .eq 8, 3) := dk_153 0 8 (dk_at dksX4_lineFor_2 20 rfl rfl)
theorem dX4_lineFor_70 : decode cX4_lineFor 70 = .ok (.iload 4, 2) := dk_21 4 (dk_at dksX4_lineFor_3 0 rfl rfl)
theorem dX4_lineFor_72 : decode cX4_lineFor 72 = .ok (.goto 4, 3) := dk_167 0 4 (dk_at dksX4_lineFor_3 2 rfl rfl)
theorem dX4_lineFor_75 : decode cX4_lineFor 75 = .ok (.iload_n 3, 1) := dk_29 (dk_at dksX4_lineFor_3 5 rfl rfl)
theorem dX4_lineFor_76 : decode cX4_lineFor 76 = .ok (.istore_n 3, 1) := dk_62 (dk_at dksX4_lineFor_3 6 rfl rfl)
theorem dX4_lineFor_77 : decode cX4_lineFor 77 = .ok (.iinc 4 1, 3) := dk_132 4 1 (dk_at dksX4_lineFor_3 7 rfl rfl)
theorem dX4_lineFor_80 : decode cX4_lineFor 80 = .ok (.goto (-64), 3) := dk_167 255 192 (dk_at dksX4_lineFor_3 10 rfl rfl)
theorem dX4_lineFor_83 : decode cX4_lineFor 83 = .ok (.iload_n 3, 1) := dk_29 (dk_at dksX4_lineFor_3 13 rfl rfl)
theorem dX4_lineFor_84 : decode cX4_lineFor 84 = .ok (.ireturn, 1) := dk_172 (dk_at dksX4_lineFor_3 14 rfl rfl)
abbrev cX4_canGive : ByteArray := prog_15_method_18_code
def yX4_canGive : MethodName := ⟨RX4, "canGive", "(I)Z"⟩
def dkwX4_canGive_1 : List UInt8 := [154, 0, 7, 4, 167, 0, 4, 3, 172]
abbrev dktX4_canGive_1 : List UInt8 := dkwX4_canGive_1 ++ []
def dkwX4_canGive_0 : List UInt8 := [42, 180, 0, 7, 16, 73, 27, 96, 46, 2, 159, 0, 19, 42, 180, 0, 7, 16, 105, 27, 96, 46]
abbrev dktX4_canGive_0 : List UInt8 := dkwX4_canGive_0 ++ dktX4_canGive_1
theorem dksX4_canGive_0 : cX4_canGive.data.toList.drop 0 = dktX4_canGive_0 := by decide +kernel
theorem dksX4_canGive_1 : cX4_canGive.data.toList.drop 22 = dktX4_canGive_1 := dk_seg dksX4_canGive_0 22 rfl rfl
theorem dX4_canGive_0 : decode cX4_canGive 0 = .ok (.aload_n 0, 1) := dk_42 (dk_at dksX4_canGive_0 0 rfl rfl)
theorem dX4_canGive_1 : decode cX4_canGive 1 = .ok (.getfield 7, 3) := dk_180 0 7 (dk_at dksX4_canGive_0 1 rfl rfl)
theorem dX4_canGive_4 : decode cX4_canGive 4 = .ok (.bipush 73, 2) := dk_16 73 (dk_at dksX4_canGive_0 4 rfl rfl)
theorem dX4_canGive_6 : decode cX4_canGive 6 = .ok (.iload_n 1, 1) := dk_27 (dk_at dksX4_canGive_0 6 rfl rfl)
theorem dX4_canGive_7 : decode cX4_canGive 7 = .ok (.iadd, 1) := dk_96 (dk_at dksX4_canGive_0 7 rfl rfl)
theorem dX4_canGive_8 : decode cX4_canGive 8 = .ok (.iaload, 1) := dk_46 (dk_at dksX4_canGive_0 8 rfl rfl)
theorem dX4_canGive_9 : decode cX4_canGive 9 = .ok (.iconst (-1), 1) := dk_2 (dk_at dksX4_canGive_0 9 rfl rfl)
theorem dX4_canGive_10 : decode cX4_canGive 10 = .ok (.if_icmp .eq 19, 3) := dk_159 0 19 (dk_at dksX4_canGive_0 10 rfl rfl)
theorem dX4_canGive_13 : decode cX4_canGive 13 = .ok (.aload_n 0, 1) := dk_42 (dk_at dksX4_canGive_0 13 rfl rfl)
theorem dX4_canGive_14 : decode cX4_canGive 14 = .ok (.getfield 7, 3) := dk_180 0 7 (dk_at dksX4_canGive_0 14 rfl rfl)
theorem dX4_canGive_17 : decode cX4_canGive 17 = .ok (.bipush 105, 2) := dk_16 105 (dk_at dksX4_canGive_0 17 rfl rfl)
theorem dX4_canGive_19 : decode cX4_canGive 19 = .ok (.iload_n 1, 1) := dk_27 (dk_at dksX4_canGive_0 19 rfl rfl)
theorem dX4_canGive_20 : decode cX4_canGive 20 = .ok (.iadd, 1) := dk_96 (dk_at dksX4_canGive_0 20 rfl rfl)
theorem dX4_canGive_21 : decode cX4_canGive 21 = .ok (.iaload, 1) := dk_46 (dk_at dksX4_canGive_0 21 rfl rfl)
theorem dX4_canGive_22 : decode cX4_canGive 22 = .ok (.ifCond .ne 7, 3) := dk_154 0 7 (dk_at dksX4_canGive_1 0 rfl rfl)
theorem dX4_canGive_25 : decode cX4_canGive 25 = .ok (.iconst 1, 1) := dk_4 (dk_at dksX4_canGive_1 3 rfl rfl)
theorem dX4_canGive_26 : decode cX4_canGive 26 = .ok (.goto 4, 3) := dk_167 0 4 (dk_at dksX4_canGive_1 4 rfl rfl)
theorem dX4_canGive_29 : decode cX4_canGive 29 = .ok (.iconst 0, 1) := dk_3 (dk_at dksX4_canGive_1 7 rfl rfl)
theorem dX4_canGive_30 : decode cX4_canGive 30 = .ok (.ireturn, 1) := dk_172 (dk_at dksX4_canGive_1 8 rfl rfl)
abbrev cX4_isAhead : ByteArray := prog_15_method_17_code
def yX4_isAhead : MethodName := ⟨RX4, "isAhead", "(II)Z"⟩
def dkwX4_isAhead_7 : List UInt8 := [3, 172]
abbrev dktX4_isAhead_7 : List UInt8 := dkwX4_isAhead_7 ++ []
def dkwX4_isAhead_6 : List UInt8 := [180, 0, 7, 16, 121, 27, 96, 46, 42, 180, 0, 7, 16, 121, 28, 96, 46, 162, 0, 7, 4, 167, 0, 4]
abbrev dktX4_isAhead_6 : List UInt8 := dkwX4_isAhead_6 ++ dktX4_isAhead_7
def dkwX4_isAhead_5 : List UInt8 := [180, 0, 7, 16, 89, 28, 96, 46, 184, 0, 76, 100, 62, 29, 155, 0, 28, 29, 154, 0, 28, 42]
abbrev dktX4_isAhead_5 : List UInt8 := dkwX4_isAhead_5 ++ dktX4_isAhead_6
def dkwX4_isAhead_4 : List UInt8 := [17, 0, 153, 28, 96, 46, 100, 62, 167, 0, 29, 42, 180, 0, 7, 16, 89, 27, 96, 46, 184, 0, 76, 42]
abbrev dktX4_isAhead_4 : List UInt8 := dkwX4_isAhead_4 ++ dktX4_isAhead_5
def dkwX4_isAhead_3 : List UInt8 := [46, 162, 0, 7, 4, 167, 0, 4, 3, 172, 42, 180, 0, 7, 17, 0, 153, 27, 96, 46, 42, 180, 0, 7]
abbrev dktX4_isAhead_3 : List UInt8 := dkwX4_isAhead_3 ++ dktX4_isAhead_4
def dkwX4_isAhead_2 : List UInt8 := [3, 62, 167, 0, 83, 42, 180, 0, 7, 17, 0, 137, 27, 96, 46, 42, 180, 0, 7, 17, 0, 137, 28, 96]
abbrev dktX4_isAhead_2 : List UInt8 := dkwX4_isAhead_2 ++ dktX4_isAhead_3
def dkwX4_isAhead_1 : List UInt8 := [170, 0, 0, 0, 0, 85, 0, 0, 0, 0, 0, 0, 0, 2, 0, 0, 0, 26, 0, 0, 0, 31, 0, 0, 0, 60]
abbrev dktX4_isAhead_1 : List UInt8 := dkwX4_isAhead_1 ++ dktX4_isAhead_2
def dkwX4_isAhead_0 : List UInt8 := [42, 180, 0, 7, 6, 46]
abbrev dktX4_isAhead_0 : List UInt8 := dkwX4_isAhead_0 ++ dktX4_isAhead_1
theorem dksX4_isAhead_0 : cX4_isAhead.data.toList.drop 0 = dktX4_isAhead_0 := by decide +kernel
theorem dksX4_isAhead_1 : cX4_isAhead.data.toList.drop 6 = dktX4_isAhead_1 := dk_seg dksX4_isAhead_0 6 rfl rfl
theorem dksX4_isAhead_2 : cX4_isAhead.data.toList.drop 32 = dktX4_isAhead_2 := dk_seg dksX4_isAhead_1 26 rfl rfl
theorem dksX4_isAhead_3 : cX4_isAhead.data.toList.drop 56 = dktX4_isAhead_3 := dk_seg dksX4_isAhead_2 24 rfl rfl
theorem dksX4_isAhead_4 : cX4_isAhead.data.toList.drop 80 = dktX4_isAhead_4 := dk_seg dksX4_isAhead_3 24 rfl rfl
theorem dksX4_isAhead_5 : cX4_isAhead.data.toList.drop 104 = dktX4_isAhead_5 := dk_seg dksX4_isAhead_4 24 rfl rfl
theorem dksX4_isAhead_6 : cX4_isAhead.data.toList.drop 126 = dktX4_isAhead_6 := dk_seg dksX4_isAhead_5 22 rfl rfl
theorem dksX4_isAhead_7 : cX4_isAhead.data.toList.drop 150 = dktX4_isAhead_7 := dk_seg dksX4_isAhead_6 24 rfl rfl
theorem dX4_isAhead_0 : decode cX4_isAhead 0 = .ok (.aload_n 0, 1) := dk_42 (dk_at dksX4_isAhead_0 0 rfl rfl)
theorem dX4_isAhead_1 : decode cX4_isAhead 1 = .ok (.getfield 7, 3) := dk_180 0 7 (dk_at dksX4_isAhead_0 1 rfl rfl)
theorem dX4_isAhead_4 : decode cX4_isAhead 4 = .ok (.iconst 3, 1) := dk_6 (dk_at dksX4_isAhead_0 4 rfl rfl)
theorem dX4_isAhead_5 : decode cX4_isAhead 5 = .ok (.iaload, 1) := dk_46 (dk_at dksX4_isAhead_0 5 rfl rfl)
theorem dX4_isAhead_6 : decode cX4_isAhead 6 = .ok (.tableswitch 85 0 2 #[26, 31, 60], 26) := by decide +kernel
theorem dX4_isAhead_32 : decode cX4_isAhead 32 = .ok (.iconst 0, 1) := dk_3 (dk_at dksX4_isAhead_2 0 rfl rfl)
theorem dX4_isAhead_33 : decode cX4_isAhead 33 = .ok (.istore_n 3, 1) := dk_62 (dk_at dksX4_isAhead_2 1 rfl rfl)
theorem dX4_isAhead_34 : decode cX4_isAhead 34 = .ok (.goto 83, 3) := dk_167 0 83 (dk_at dksX4_isAhead_2 2 rfl rfl)
theorem dX4_isAhead_37 : decode cX4_isAhead 37 = .ok (.aload_n 0, 1) := dk_42 (dk_at dksX4_isAhead_2 5 rfl rfl)
theorem dX4_isAhead_38 : decode cX4_isAhead 38 = .ok (.getfield 7, 3) := dk_180 0 7 (dk_at dksX4_isAhead_2 6 rfl rfl)
theorem dX4_isAhead_41 : decode cX4_isAhead 41 = .ok (.sipush 137, 3) := dk_17 0 137 (dk_at dksX4_isAhead_2 9 rfl rfl)
theorem dX4_isAhead_44 : decode cX4_isAhead 44 = .ok (.iload_n 1, 1) := dk_27 (dk_at dksX4_isAhead_2 12 rfl rfl)
theorem dX4_isAhead_45 : decode cX4_isAhead 45 = .ok (.iadd, 1) := dk_96 (dk_at dksX4_isAhead_2 13 rfl rfl)
theorem dX4_isAhead_46 : decode cX4_isAhead 46 = .ok (.iaload, 1) := dk_46 (dk_at dksX4_isAhead_2 14 rfl rfl)
theorem dX4_isAhead_47 : decode cX4_isAhead 47 = .ok (.aload_n 0, 1) := dk_42 (dk_at dksX4_isAhead_2 15 rfl rfl)
theorem dX4_isAhead_48 : decode cX4_isAhead 48 = .ok (.getfield 7, 3) := dk_180 0 7 (dk_at dksX4_isAhead_2 16 rfl rfl)
theorem dX4_isAhead_51 : decode cX4_isAhead 51 = .ok (.sipush 137, 3) := dk_17 0 137 (dk_at dksX4_isAhead_2 19 rfl rfl)
theorem dX4_isAhead_54 : decode cX4_isAhead 54 = .ok (.iload_n 2, 1) := dk_28 (dk_at dksX4_isAhead_2 22 rfl rfl)
theorem dX4_isAhead_55 : decode cX4_isAhead 55 = .ok (.iadd, 1) := dk_96 (dk_at dksX4_isAhead_2 23 rfl rfl)
theorem dX4_isAhead_56 : decode cX4_isAhead 56 = .ok (.iaload, 1) := dk_46 (dk_at dksX4_isAhead_3 0 rfl rfl)
theorem dX4_isAhead_57 : decode cX4_isAhead 57 = .ok (.if_icmp .ge 7, 3) := dk_162 0 7 (dk_at dksX4_isAhead_3 1 rfl rfl)
theorem dX4_isAhead_60 : decode cX4_isAhead 60 = .ok (.iconst 1, 1) := dk_4 (dk_at dksX4_isAhead_3 4 rfl rfl)
theorem dX4_isAhead_61 : decode cX4_isAhead 61 = .ok (.goto 4, 3) := dk_167 0 4 (dk_at dksX4_isAhead_3 5 rfl rfl)
theorem dX4_isAhead_64 : decode cX4_isAhead 64 = .ok (.iconst 0, 1) := dk_3 (dk_at dksX4_isAhead_3 8 rfl rfl)
theorem dX4_isAhead_65 : decode cX4_isAhead 65 = .ok (.ireturn, 1) := dk_172 (dk_at dksX4_isAhead_3 9 rfl rfl)
theorem dX4_isAhead_66 : decode cX4_isAhead 66 = .ok (.aload_n 0, 1) := dk_42 (dk_at dksX4_isAhead_3 10 rfl rfl)
theorem dX4_isAhead_67 : decode cX4_isAhead 67 = .ok (.getfield 7, 3) := dk_180 0 7 (dk_at dksX4_isAhead_3 11 rfl rfl)
theorem dX4_isAhead_70 : decode cX4_isAhead 70 = .ok (.sipush 153, 3) := dk_17 0 153 (dk_at dksX4_isAhead_3 14 rfl rfl)
theorem dX4_isAhead_73 : decode cX4_isAhead 73 = .ok (.iload_n 1, 1) := dk_27 (dk_at dksX4_isAhead_3 17 rfl rfl)
theorem dX4_isAhead_74 : decode cX4_isAhead 74 = .ok (.iadd, 1) := dk_96 (dk_at dksX4_isAhead_3 18 rfl rfl)
theorem dX4_isAhead_75 : decode cX4_isAhead 75 = .ok (.iaload, 1) := dk_46 (dk_at dksX4_isAhead_3 19 rfl rfl)
theorem dX4_isAhead_76 : decode cX4_isAhead 76 = .ok (.aload_n 0, 1) := dk_42 (dk_at dksX4_isAhead_3 20 rfl rfl)
theorem dX4_isAhead_77 : decode cX4_isAhead 77 = .ok (.getfield 7, 3) := dk_180 0 7 (dk_at dksX4_isAhead_3 21 rfl rfl)
theorem dX4_isAhead_80 : decode cX4_isAhead 80 = .ok (.sipush 153, 3) := dk_17 0 153 (dk_at dksX4_isAhead_4 0 rfl rfl)
theorem dX4_isAhead_83 : decode cX4_isAhead 83 = .ok (.iload_n 2, 1) := dk_28 (dk_at dksX4_isAhead_4 3 rfl rfl)
theorem dX4_isAhead_84 : decode cX4_isAhead 84 = .ok (.iadd, 1) := dk_96 (dk_at dksX4_isAhead_4 4 rfl rfl)
theorem dX4_isAhead_85 : decode cX4_isAhead 85 = .ok (.iaload, 1) := dk_46 (dk_at dksX4_isAhead_4 5 rfl rfl)
theorem dX4_isAhead_86 : decode cX4_isAhead 86 = .ok (.isub, 1) := dk_100 (dk_at dksX4_isAhead_4 6 rfl rfl)
theorem dX4_isAhead_87 : decode cX4_isAhead 87 = .ok (.istore_n 3, 1) := dk_62 (dk_at dksX4_isAhead_4 7 rfl rfl)
theorem dX4_isAhead_88 : decode cX4_isAhead 88 = .ok (.goto 29, 3) := dk_167 0 29 (dk_at dksX4_isAhead_4 8 rfl rfl)
theorem dX4_isAhead_91 : decode cX4_isAhead 91 = .ok (.aload_n 0, 1) := dk_42 (dk_at dksX4_isAhead_4 11 rfl rfl)
theorem dX4_isAhead_92 : decode cX4_isAhead 92 = .ok (.getfield 7, 3) := dk_180 0 7 (dk_at dksX4_isAhead_4 12 rfl rfl)
theorem dX4_isAhead_95 : decode cX4_isAhead 95 = .ok (.bipush 89, 2) := dk_16 89 (dk_at dksX4_isAhead_4 15 rfl rfl)
theorem dX4_isAhead_97 : decode cX4_isAhead 97 = .ok (.iload_n 1, 1) := dk_27 (dk_at dksX4_isAhead_4 17 rfl rfl)
theorem dX4_isAhead_98 : decode cX4_isAhead 98 = .ok (.iadd, 1) := dk_96 (dk_at dksX4_isAhead_4 18 rfl rfl)
theorem dX4_isAhead_99 : decode cX4_isAhead 99 = .ok (.iaload, 1) := dk_46 (dk_at dksX4_isAhead_4 19 rfl rfl)
theorem dX4_isAhead_100 : decode cX4_isAhead 100 = .ok (.invokestatic 76, 3) := dk_184 0 76 (dk_at dksX4_isAhead_4 20 rfl rfl)
theorem dX4_isAhead_103 : decode cX4_isAhead 103 = .ok (.aload_n 0, 1) := dk_42 (dk_at dksX4_isAhead_4 23 rfl rfl)
theorem dX4_isAhead_104 : decode cX4_isAhead 104 = .ok (.getfield 7, 3) := dk_180 0 7 (dk_at dksX4_isAhead_5 0 rfl rfl)
theorem dX4_isAhead_107 : decode cX4_isAhead 107 = .ok (.bipush 89, 2) := dk_16 89 (dk_at dksX4_isAhead_5 3 rfl rfl)
theorem dX4_isAhead_109 : decode cX4_isAhead 109 = .ok (.iload_n 2, 1) := dk_28 (dk_at dksX4_isAhead_5 5 rfl rfl)
theorem dX4_isAhead_110 : decode cX4_isAhead 110 = .ok (.iadd, 1) := dk_96 (dk_at dksX4_isAhead_5 6 rfl rfl)
theorem dX4_isAhead_111 : decode cX4_isAhead 111 = .ok (.iaload, 1) := dk_46 (dk_at dksX4_isAhead_5 7 rfl rfl)
theorem dX4_isAhead_112 : decode cX4_isAhead 112 = .ok (.invokestatic 76, 3) := dk_184 0 76 (dk_at dksX4_isAhead_5 8 rfl rfl)
theorem dX4_isAhead_115 : decode cX4_isAhead 115 = .ok (.isub, 1) := dk_100 (dk_at dksX4_isAhead_5 11 rfl rfl)
theorem dX4_isAhead_116 : decode cX4_isAhead 116 = .ok (.istore_n 3, 1) := dk_62 (dk_at dksX4_isAhead_5 12 rfl rfl)
theorem dX4_isAhead_117 : decode cX4_isAhead 117 = .ok (.iload_n 3, 1) := dk_29 (dk_at dksX4_isAhead_5 13 rfl rfl)
theorem dX4_isAhead_118 : decode cX4_isAhead 118 = .ok (.ifCond .lt 28, 3) := dk_155 0 28 (dk_at dksX4_isAhead_5 14 rfl rfl)
theorem dX4_isAhead_121 : decode cX4_isAhead 121 = .ok (.iload_n 3, 1) := dk_29 (dk_at dksX4_isAhead_5 17 rfl rfl)
theorem dX4_isAhead_122 : decode cX4_isAhead 122 = .ok (.ifCond .ne 28, 3) := dk_154 0 28 (dk_at dksX4_isAhead_5 18 rfl rfl)
theorem dX4_isAhead_125 : decode cX4_isAhead 125 = .ok (.aload_n 0, 1) := dk_42 (dk_at dksX4_isAhead_5 21 rfl rfl)
theorem dX4_isAhead_126 : decode cX4_isAhead 126 = .ok (.getfield 7, 3) := dk_180 0 7 (dk_at dksX4_isAhead_6 0 rfl rfl)
theorem dX4_isAhead_129 : decode cX4_isAhead 129 = .ok (.bipush 121, 2) := dk_16 121 (dk_at dksX4_isAhead_6 3 rfl rfl)
theorem dX4_isAhead_131 : decode cX4_isAhead 131 = .ok (.iload_n 1, 1) := dk_27 (dk_at dksX4_isAhead_6 5 rfl rfl)
theorem dX4_isAhead_132 : decode cX4_isAhead 132 = .ok (.iadd, 1) := dk_96 (dk_at dksX4_isAhead_6 6 rfl rfl)
theorem dX4_isAhead_133 : decode cX4_isAhead 133 = .ok (.iaload, 1) := dk_46 (dk_at dksX4_isAhead_6 7 rfl rfl)
theorem dX4_isAhead_134 : decode cX4_isAhead 134 = .ok (.aload_n 0, 1) := dk_42 (dk_at dksX4_isAhead_6 8 rfl rfl)
theorem dX4_isAhead_135 : decode cX4_isAhead 135 = .ok (.getfield 7, 3) := dk_180 0 7 (dk_at dksX4_isAhead_6 9 rfl rfl)
theorem dX4_isAhead_138 : decode cX4_isAhead 138 = .ok (.bipush 121, 2) := dk_16 121 (dk_at dksX4_isAhead_6 12 rfl rfl)
theorem dX4_isAhead_140 : decode cX4_isAhead 140 = .ok (.iload_n 2, 1) := dk_28 (dk_at dksX4_isAhead_6 14 rfl rfl)
theorem dX4_isAhead_141 : decode cX4_isAhead 141 = .ok (.iadd, 1) := dk_96 (dk_at dksX4_isAhead_6 15 rfl rfl)
theorem dX4_isAhead_142 : decode cX4_isAhead 142 = .ok (.iaload, 1) := dk_46 (dk_at dksX4_isAhead_6 16 rfl rfl)
theorem dX4_isAhead_143 : decode cX4_isAhead 143 = .ok (.if_icmp .ge 7, 3) := dk_162 0 7 (dk_at dksX4_isAhead_6 17 rfl rfl)
theorem dX4_isAhead_146 : decode cX4_isAhead 146 = .ok (.iconst 1, 1) := dk_4 (dk_at dksX4_isAhead_6 20 rfl rfl)
theorem dX4_isAhead_147 : decode cX4_isAhead 147 = .ok (.goto 4, 3) := dk_167 0 4 (dk_at dksX4_isAhead_6 21 rfl rfl)
theorem dX4_isAhead_150 : decode cX4_isAhead 150 = .ok (.iconst 0, 1) := dk_3 (dk_at dksX4_isAhead_7 0 rfl rfl)
theorem dX4_isAhead_151 : decode cX4_isAhead 151 = .ok (.ireturn, 1) := dk_172 (dk_at dksX4_isAhead_7 1 rfl rfl)
abbrev cX4_ones : ByteArray := prog_15_method_10_code
def yX4_ones : MethodName := ⟨RX4, "ones", "(I)I"⟩
def dkwX4_ones_1 : List UInt8 := [172]
abbrev dktX4_ones_1 : List UInt8 := dkwX4_ones_1 ++ []
def dkwX4_ones_0 : List UInt8 := [3, 60, 3, 61, 28, 7, 162, 0, 17, 27, 26, 28, 122, 4, 126, 96, 60, 132, 2, 1, 167, 255, 240, 27]
abbrev dktX4_ones_0 : List UInt8 := dkwX4_ones_0 ++ dktX4_ones_1
theorem dksX4_ones_0 : cX4_ones.data.toList.drop 0 = dktX4_ones_0 := by decide +kernel
theorem dksX4_ones_1 : cX4_ones.data.toList.drop 24 = dktX4_ones_1 := dk_seg dksX4_ones_0 24 rfl rfl
theorem dX4_ones_0 : decode cX4_ones 0 = .ok (.iconst 0, 1) := dk_3 (dk_at dksX4_ones_0 0 rfl rfl)
theorem dX4_ones_1 : decode cX4_ones 1 = .ok (.istore_n 1, 1) := dk_60 (dk_at dksX4_ones_0 1 rfl rfl)
theorem dX4_ones_2 : decode cX4_ones 2 = .ok (.iconst 0, 1) := dk_3 (dk_at dksX4_ones_0 2 rfl rfl)
theorem dX4_ones_3 : decode cX4_ones 3 = .ok (.istore_n 2, 1) := dk_61 (dk_at dksX4_ones_0 3 rfl rfl)
theorem dX4_ones_4 : decode cX4_ones 4 = .ok (.iload_n 2, 1) := dk_28 (dk_at dksX4_ones_0 4 rfl rfl)
theorem dX4_ones_5 : decode cX4_ones 5 = .ok (.iconst 4, 1) := dk_7 (dk_at dksX4_ones_0 5 rfl rfl)
theorem dX4_ones_6 : decode cX4_ones 6 = .ok (.if_icmp .ge 17, 3) := dk_162 0 17 (dk_at dksX4_ones_0 6 rfl rfl)
theorem dX4_ones_9 : decode cX4_ones 9 = .ok (.iload_n 1, 1) := dk_27 (dk_at dksX4_ones_0 9 rfl rfl)
theorem dX4_ones_10 : decode cX4_ones 10 = .ok (.iload_n 0, 1) := dk_26 (dk_at dksX4_ones_0 10 rfl rfl)
theorem dX4_ones_11 : decode cX4_ones 11 = .ok (.iload_n 2, 1) := dk_28 (dk_at dksX4_ones_0 11 rfl rfl)
theorem dX4_ones_12 : decode cX4_ones 12 = .ok (.ishr, 1) := dk_122 (dk_at dksX4_ones_0 12 rfl rfl)
theorem dX4_ones_13 : decode cX4_ones 13 = .ok (.iconst 1, 1) := dk_4 (dk_at dksX4_ones_0 13 rfl rfl)
theorem dX4_ones_14 : decode cX4_ones 14 = .ok (.iand, 1) := dk_126 (dk_at dksX4_ones_0 14 rfl rfl)
theorem dX4_ones_15 : decode cX4_ones 15 = .ok (.iadd, 1) := dk_96 (dk_at dksX4_ones_0 15 rfl rfl)
theorem dX4_ones_16 : decode cX4_ones 16 = .ok (.istore_n 1, 1) := dk_60 (dk_at dksX4_ones_0 16 rfl rfl)
theorem dX4_ones_17 : decode cX4_ones 17 = .ok (.iinc 2 1, 3) := dk_132 2 1 (dk_at dksX4_ones_0 17 rfl rfl)
theorem dX4_ones_20 : decode cX4_ones 20 = .ok (.goto (-16), 3) := dk_167 255 240 (dk_at dksX4_ones_0 20 rfl rfl)
theorem dX4_ones_23 : decode cX4_ones 23 = .ok (.iload_n 1, 1) := dk_27 (dk_at dksX4_ones_0 23 rfl rfl)
theorem dX4_ones_24 : decode cX4_ones 24 = .ok (.ireturn, 1) := dk_172 (dk_at dksX4_ones_1 0 rfl rfl)
abbrev cX4_misses : ByteArray := prog_15_method_25_code
def yX4_misses : MethodName := ⟨RX4, "misses", "(II)V"⟩
def dkwX4_misses_5 : List UInt8 := [132, 5, 1, 167, 255, 219, 42, 180, 0, 7, 17, 0, 233, 92, 46, 4, 27, 120, 128, 79, 177]
abbrev dktX4_misses_5 : List UInt8 := dkwX4_misses_5 ++ []
def dkwX4_misses_4 : List UInt8 := [17, 0, 169, 7, 28, 104, 96, 21, 5, 96, 42, 180, 0, 7, 8, 7, 27, 104, 96, 21, 5, 96, 46, 79]
abbrev dktX4_misses_4 : List UInt8 := dkwX4_misses_4 ++ dktX4_misses_5
def dkwX4_misses_3 : List UInt8 := [180, 0, 7, 17, 0, 137, 28, 96, 29, 79, 3, 54, 5, 21, 5, 7, 162, 0, 37, 42, 180, 0, 7]
abbrev dktX4_misses_3 : List UInt8 := dkwX4_misses_3 ++ dktX4_misses_4
def dkwX4_misses_2 : List UInt8 := [42, 27, 8, 182, 0, 87, 42, 28, 182, 0, 72, 42, 180, 0, 7, 16, 73, 28, 96, 27, 79, 42]
abbrev dktX4_misses_2 : List UInt8 := dkwX4_misses_2 ++ dktX4_misses_3
def dkwX4_misses_1 : List UInt8 := [17, 1, 11, 27, 96, 92, 46, 4, 96, 79, 42, 180, 0, 7, 3, 46, 62, 42, 28, 182, 0, 91, 54, 4]
abbrev dktX4_misses_1 : List UInt8 := dkwX4_misses_1 ++ dktX4_misses_2
def dkwX4_misses_0 : List UInt8 := [42, 180, 0, 7, 17, 1, 30, 42, 27, 182, 0, 94, 96, 92, 46, 4, 96, 79, 42, 180, 0, 7]
abbrev dktX4_misses_0 : List UInt8 := dkwX4_misses_0 ++ dktX4_misses_1
theorem dksX4_misses_0 : cX4_misses.data.toList.drop 0 = dktX4_misses_0 := by decide +kernel
theorem dksX4_misses_1 : cX4_misses.data.toList.drop 22 = dktX4_misses_1 := dk_seg dksX4_misses_0 22 rfl rfl
theorem dksX4_misses_2 : cX4_misses.data.toList.drop 46 = dktX4_misses_2 := dk_seg dksX4_misses_1 24 rfl rfl
theorem dksX4_misses_3 : cX4_misses.data.toList.drop 68 = dktX4_misses_3 := dk_seg dksX4_misses_2 22 rfl rfl
theorem dksX4_misses_4 : cX4_misses.data.toList.drop 91 = dktX4_misses_4 := dk_seg dksX4_misses_3 23 rfl rfl
theorem dksX4_misses_5 : cX4_misses.data.toList.drop 115 = dktX4_misses_5 := dk_seg dksX4_misses_4 24 rfl rfl
theorem dX4_misses_0 : decode cX4_misses 0 = .ok (.aload_n 0, 1) := dk_42 (dk_at dksX4_misses_0 0 rfl rfl)
theorem dX4_misses_1 : decode cX4_misses 1 = .ok (.getfield 7, 3) := dk_180 0 7 (dk_at dksX4_misses_0 1 rfl rfl)
theorem dX4_misses_4 : decode cX4_misses 4 = .ok (.sipush 286, 3) := dk_17 1 30 (dk_at dksX4_misses_0 4 rfl rfl)
theorem dX4_misses_7 : decode cX4_misses 7 = .ok (.aload_n 0, 1) := dk_42 (dk_at dksX4_misses_0 7 rfl rfl)
theorem dX4_misses_8 : decode cX4_misses 8 = .ok (.iload_n 1, 1) := dk_27 (dk_at dksX4_misses_0 8 rfl rfl)
theorem dX4_misses_9 : decode cX4_misses 9 = .ok (.invokevirtual 94, 3) := dk_182 0 94 (dk_at dksX4_misses_0 9 rfl rfl)
theorem dX4_misses_12 : decode cX4_misses 12 = .ok (.iadd, 1) := dk_96 (dk_at dksX4_misses_0 12 rfl rfl)
theorem dX4_misses_13 : decode cX4_misses 13 = .ok (.dup2, 1) := dk_92 (dk_at dksX4_misses_0 13 rfl rfl)
theorem dX4_misses_14 : decode cX4_misses 14 = .ok (.iaload, 1) := dk_46 (dk_at dksX4_misses_0 14 rfl rfl)
theorem dX4_misses_15 : decode cX4_misses 15 = .ok (.iconst 1, 1) := dk_4 (dk_at dksX4_misses_0 15 rfl rfl)
theorem dX4_misses_16 : decode cX4_misses 16 = .ok (.iadd, 1) := dk_96 (dk_at dksX4_misses_0 16 rfl rfl)
theorem dX4_misses_17 : decode cX4_misses 17 = .ok (.iastore, 1) := dk_79 (dk_at dksX4_misses_0 17 rfl rfl)
theorem dX4_misses_18 : decode cX4_misses 18 = .ok (.aload_n 0, 1) := dk_42 (dk_at dksX4_misses_0 18 rfl rfl)
theorem dX4_misses_19 : decode cX4_misses 19 = .ok (.getfield 7, 3) := dk_180 0 7 (dk_at dksX4_misses_0 19 rfl rfl)
theorem dX4_misses_22 : decode cX4_misses 22 = .ok (.sipush 267, 3) := dk_17 1 11 (dk_at dksX4_misses_1 0 rfl rfl)
theorem dX4_misses_25 : decode cX4_misses 25 = .ok (.iload_n 1, 1) := dk_27 (dk_at dksX4_misses_1 3 rfl rfl)
theorem dX4_misses_26 : decode cX4_misses 26 = .ok (.iadd, 1) := dk_96 (dk_at dksX4_misses_1 4 rfl rfl)
theorem dX4_misses_27 : decode cX4_misses 27 = .ok (.dup2, 1) := dk_92 (dk_at dksX4_misses_1 5 rfl rfl)
theorem dX4_misses_28 : decode cX4_misses 28 = .ok (.iaload, 1) := dk_46 (dk_at dksX4_misses_1 6 rfl rfl)
theorem dX4_misses_29 : decode cX4_misses 29 = .ok (.iconst 1, 1) := dk_4 (dk_at dksX4_misses_1 7 rfl rfl)
theorem dX4_misses_30 : decode cX4_misses 30 = .ok (.iadd, 1) := dk_96 (dk_at dksX4_misses_1 8 rfl rfl)
theorem dX4_misses_31 : decode cX4_misses 31 = .ok (.iastore, 1) := dk_79 (dk_at dksX4_misses_1 9 rfl rfl)
theorem dX4_misses_32 : decode cX4_misses 32 = .ok (.aload_n 0, 1) := dk_42 (dk_at dksX4_misses_1 10 rfl rfl)
theorem dX4_misses_33 : decode cX4_misses 33 = .ok (.getfield 7, 3) := dk_180 0 7 (dk_at dksX4_misses_1 11 rfl rfl)
theorem dX4_misses_36 : decode cX4_misses 36 = .ok (.iconst 0, 1) := dk_3 (dk_at dksX4_misses_1 14 rfl rfl)
theorem dX4_misses_37 : decode cX4_misses 37 = .ok (.iaload, 1) := dk_46 (dk_at dksX4_misses_1 15 rfl rfl)
theorem dX4_misses_38 : decode cX4_misses 38 = .ok (.istore_n 3, 1) := dk_62 (dk_at dksX4_misses_1 16 rfl rfl)
theorem dX4_misses_39 : decode cX4_misses 39 = .ok (.aload_n 0, 1) := dk_42 (dk_at dksX4_misses_1 17 rfl rfl)
theorem dX4_misses_40 : decode cX4_misses 40 = .ok (.iload_n 2, 1) := dk_28 (dk_at dksX4_misses_1 18 rfl rfl)
theorem dX4_misses_41 : decode cX4_misses 41 = .ok (.invokevirtual 91, 3) := dk_182 0 91 (dk_at dksX4_misses_1 19 rfl rfl)
theorem dX4_misses_44 : decode cX4_misses 44 = .ok (.istore 4, 2) := dk_54 4 (dk_at dksX4_misses_1 22 rfl rfl)
theorem dX4_misses_46 : decode cX4_misses 46 = .ok (.aload_n 0, 1) := dk_42 (dk_at dksX4_misses_2 0 rfl rfl)
theorem dX4_misses_47 : decode cX4_misses 47 = .ok (.iload_n 1, 1) := dk_27 (dk_at dksX4_misses_2 1 rfl rfl)
theorem dX4_misses_48 : decode cX4_misses 48 = .ok (.iconst 5, 1) := dk_8 (dk_at dksX4_misses_2 2 rfl rfl)
theorem dX4_misses_49 : decode cX4_misses 49 = .ok (.invokevirtual 87, 3) := dk_182 0 87 (dk_at dksX4_misses_2 3 rfl rfl)
theorem dX4_misses_52 : decode cX4_misses 52 = .ok (.aload_n 0, 1) := dk_42 (dk_at dksX4_misses_2 6 rfl rfl)
theorem dX4_misses_53 : decode cX4_misses 53 = .ok (.iload_n 2, 1) := dk_28 (dk_at dksX4_misses_2 7 rfl rfl)
theorem dX4_misses_54 : decode cX4_misses 54 = .ok (.invokevirtual 72, 3) := dk_182 0 72 (dk_at dksX4_misses_2 8 rfl rfl)
theorem dX4_misses_57 : decode cX4_misses 57 = .ok (.aload_n 0, 1) := dk_42 (dk_at dksX4_misses_2 11 rfl rfl)
theorem dX4_misses_58 : decode cX4_misses 58 = .ok (.getfield 7, 3) := dk_180 0 7 (dk_at dksX4_misses_2 12 rfl rfl)
theorem dX4_misses_61 : decode cX4_misses 61 = .ok (.bipush 73, 2) := dk_16 73 (dk_at dksX4_misses_2 15 rfl rfl)
theorem dX4_misses_63 : decode cX4_misses 63 = .ok (.iload_n 2, 1) := dk_28 (dk_at dksX4_misses_2 17 rfl rfl)
theorem dX4_misses_64 : decode cX4_misses 64 = .ok (.iadd, 1) := dk_96 (dk_at dksX4_misses_2 18 rfl rfl)
theorem dX4_misses_65 : decode cX4_misses 65 = .ok (.iload_n 1, 1) := dk_27 (dk_at dksX4_misses_2 19 rfl rfl)
theorem dX4_misses_66 : decode cX4_misses 66 = .ok (.iastore, 1) := dk_79 (dk_at dksX4_misses_2 20 rfl rfl)
theorem dX4_misses_67 : decode cX4_misses 67 = .ok (.aload_n 0, 1) := dk_42 (dk_at dksX4_misses_2 21 rfl rfl)
theorem dX4_misses_68 : decode cX4_misses 68 = .ok (.getfield 7, 3) := dk_180 0 7 (dk_at dksX4_misses_3 0 rfl rfl)
theorem dX4_misses_71 : decode cX4_misses 71 = .ok (.sipush 137, 3) := dk_17 0 137 (dk_at dksX4_misses_3 3 rfl rfl)
theorem dX4_misses_74 : decode cX4_misses 74 = .ok (.iload_n 2, 1) := dk_28 (dk_at dksX4_misses_3 6 rfl rfl)
theorem dX4_misses_75 : decode cX4_misses 75 = .ok (.iadd, 1) := dk_96 (dk_at dksX4_misses_3 7 rfl rfl)
theorem dX4_misses_76 : decode cX4_misses 76 = .ok (.iload_n 3, 1) := dk_29 (dk_at dksX4_misses_3 8 rfl rfl)
theorem dX4_misses_77 : decode cX4_misses 77 = .ok (.iastore, 1) := dk_79 (dk_at dksX4_misses_3 9 rfl rfl)
theorem dX4_misses_78 : decode cX4_misses 78 = .ok (.iconst 0, 1) := dk_3 (dk_at dksX4_misses_3 10 rfl rfl)
theorem dX4_misses_79 : decode cX4_misses 79 = .ok (.istore 5, 2) := dk_54 5 (dk_at dksX4_misses_3 11 rfl rfl)
theorem dX4_misses_81 : decode cX4_misses 81 = .ok (.iload 5, 2) := dk_21 5 (dk_at dksX4_misses_3 13 rfl rfl)
theorem dX4_misses_83 : decode cX4_misses 83 = .ok (.iconst 4, 1) := dk_7 (dk_at dksX4_misses_3 15 rfl rfl)
theorem dX4_misses_84 : decode cX4_misses 84 = .ok (.if_icmp .ge 37, 3) := dk_162 0 37 (dk_at dksX4_misses_3 16 rfl rfl)
theorem dX4_misses_87 : decode cX4_misses 87 = .ok (.aload_n 0, 1) := dk_42 (dk_at dksX4_misses_3 19 rfl rfl)
theorem dX4_misses_88 : decode cX4_misses 88 = .ok (.getfield 7, 3) := dk_180 0 7 (dk_at dksX4_misses_3 20 rfl rfl)
theorem dX4_misses_91 : decode cX4_misses 91 = .ok (.sipush 169, 3) := dk_17 0 169 (dk_at dksX4_misses_4 0 rfl rfl)
theorem dX4_misses_94 : decode cX4_misses 94 = .ok (.iconst 4, 1) := dk_7 (dk_at dksX4_misses_4 3 rfl rfl)
theorem dX4_misses_95 : decode cX4_misses 95 = .ok (.iload_n 2, 1) := dk_28 (dk_at dksX4_misses_4 4 rfl rfl)
theorem dX4_misses_96 : decode cX4_misses 96 = .ok (.imul, 1) := dk_104 (dk_at dksX4_misses_4 5 rfl rfl)
theorem dX4_misses_97 : decode cX4_misses 97 = .ok (.iadd, 1) := dk_96 (dk_at dksX4_misses_4 6 rfl rfl)
theorem dX4_misses_98 : decode cX4_misses 98 = .ok (.iload 5, 2) := dk_21 5 (dk_at dksX4_misses_4 7 rfl rfl)
theorem dX4_misses_100 : decode cX4_misses 100 = .ok (.iadd, 1) := dk_96 (dk_at dksX4_misses_4 9 rfl rfl)
theorem dX4_misses_101 : decode cX4_misses 101 = .ok (.aload_n 0, 1) := dk_42 (dk_at dksX4_misses_4 10 rfl rfl)
theorem dX4_misses_102 : decode cX4_misses 102 = .ok (.getfield 7, 3) := dk_180 0 7 (dk_at dksX4_misses_4 11 rfl rfl)
theorem dX4_misses_105 : decode cX4_misses 105 = .ok (.iconst 5, 1) := dk_8 (dk_at dksX4_misses_4 14 rfl rfl)
theorem dX4_misses_106 : decode cX4_misses 106 = .ok (.iconst 4, 1) := dk_7 (dk_at dksX4_misses_4 15 rfl rfl)
theorem dX4_misses_107 : decode cX4_misses 107 = .ok (.iload_n 1, 1) := dk_27 (dk_at dksX4_misses_4 16 rfl rfl)
theorem dX4_misses_108 : decode cX4_misses 108 = .ok (.imul, 1) := dk_104 (dk_at dksX4_misses_4 17 rfl rfl)
theorem dX4_misses_109 : decode cX4_misses 109 = .ok (.iadd, 1) := dk_96 (dk_at dksX4_misses_4 18 rfl rfl)
theorem dX4_misses_110 : decode cX4_misses 110 = .ok (.iload 5, 2) := dk_21 5 (dk_at dksX4_misses_4 19 rfl rfl)
theorem dX4_misses_112 : decode cX4_misses 112 = .ok (.iadd, 1) := dk_96 (dk_at dksX4_misses_4 21 rfl rfl)
theorem dX4_misses_113 : decode cX4_misses 113 = .ok (.iaload, 1) := dk_46 (dk_at dksX4_misses_4 22 rfl rfl)
theorem dX4_misses_114 : decode cX4_misses 114 = .ok (.iastore, 1) := dk_79 (dk_at dksX4_misses_4 23 rfl rfl)
theorem dX4_misses_115 : decode cX4_misses 115 = .ok (.iinc 5 1, 3) := dk_132 5 1 (dk_at dksX4_misses_5 0 rfl rfl)
theorem dX4_misses_118 : decode cX4_misses 118 = .ok (.goto (-37), 3) := dk_167 255 219 (dk_at dksX4_misses_5 3 rfl rfl)
theorem dX4_misses_121 : decode cX4_misses 121 = .ok (.aload_n 0, 1) := dk_42 (dk_at dksX4_misses_5 6 rfl rfl)
theorem dX4_misses_122 : decode cX4_misses 122 = .ok (.getfield 7, 3) := dk_180 0 7 (dk_at dksX4_misses_5 7 rfl rfl)
theorem dX4_misses_125 : decode cX4_misses 125 = .ok (.sipush 233, 3) := dk_17 0 233 (dk_at dksX4_misses_5 10 rfl rfl)
theorem dX4_misses_128 : decode cX4_misses 128 = .ok (.dup2, 1) := dk_92 (dk_at dksX4_misses_5 13 rfl rfl)
theorem dX4_misses_129 : decode cX4_misses 129 = .ok (.iaload, 1) := dk_46 (dk_at dksX4_misses_5 14 rfl rfl)
theorem dX4_misses_130 : decode cX4_misses 130 = .ok (.iconst 1, 1) := dk_4 (dk_at dksX4_misses_5 15 rfl rfl)
theorem dX4_misses_131 : decode cX4_misses 131 = .ok (.iload_n 1, 1) := dk_27 (dk_at dksX4_misses_5 16 rfl rfl)
theorem dX4_misses_132 : decode cX4_misses 132 = .ok (.ishl, 1) := dk_120 (dk_at dksX4_misses_5 17 rfl rfl)
theorem dX4_misses_133 : decode cX4_misses 133 = .ok (.ior, 1) := dk_128 (dk_at dksX4_misses_5 18 rfl rfl)
theorem dX4_misses_134 : decode cX4_misses 134 = .ok (.iastore, 1) := dk_79 (dk_at dksX4_misses_5 19 rfl rfl)
theorem dX4_misses_135 : decode cX4_misses 135 = .ok (.return_, 1) := dk_177 (dk_at dksX4_misses_5 20 rfl rfl)
abbrev cX4_causeBy : ByteArray := prog_15_method_23_code
def yX4_causeBy : MethodName := ⟨RX4, "causeBy", "(I)I"⟩
def dkwX4_causeBy_2 : List UInt8 := [42, 180, 0, 7, 17, 0, 235, 28, 96, 46, 27, 160, 0, 5, 5, 172, 132, 2, 1, 167, 255, 208, 4, 172]
abbrev dktX4_causeBy_2 : List UInt8 := dkwX4_causeBy_2 ++ []
def dkwX4_causeBy_1 : List UInt8 := [17, 0, 234, 46, 162, 0, 42, 28, 42, 180, 0, 7, 4, 46, 42, 180, 0, 7, 5, 46, 104, 162, 0, 25]
abbrev dktX4_causeBy_1 : List UInt8 := dkwX4_causeBy_1 ++ dktX4_causeBy_2
def dkwX4_causeBy_0 : List UInt8 := [42, 180, 0, 7, 17, 0, 233, 46, 27, 122, 4, 126, 154, 0, 5, 3, 172, 3, 61, 28, 42, 180, 0, 7]
abbrev dktX4_causeBy_0 : List UInt8 := dkwX4_causeBy_0 ++ dktX4_causeBy_1
theorem dksX4_causeBy_0 : cX4_causeBy.data.toList.drop 0 = dktX4_causeBy_0 := by decide +kernel
theorem dksX4_causeBy_1 : cX4_causeBy.data.toList.drop 24 = dktX4_causeBy_1 := dk_seg dksX4_causeBy_0 24 rfl rfl
theorem dksX4_causeBy_2 : cX4_causeBy.data.toList.drop 48 = dktX4_causeBy_2 := dk_seg dksX4_causeBy_1 24 rfl rfl
theorem dX4_causeBy_0 : decode cX4_causeBy 0 = .ok (.aload_n 0, 1) := dk_42 (dk_at dksX4_causeBy_0 0 rfl rfl)
theorem dX4_causeBy_1 : decode cX4_causeBy 1 = .ok (.getfield 7, 3) := dk_180 0 7 (dk_at dksX4_causeBy_0 1 rfl rfl)
theorem dX4_causeBy_4 : decode cX4_causeBy 4 = .ok (.sipush 233, 3) := dk_17 0 233 (dk_at dksX4_causeBy_0 4 rfl rfl)
theorem dX4_causeBy_7 : decode cX4_causeBy 7 = .ok (.iaload, 1) := dk_46 (dk_at dksX4_causeBy_0 7 rfl rfl)
theorem dX4_causeBy_8 : decode cX4_causeBy 8 = .ok (.iload_n 1, 1) := dk_27 (dk_at dksX4_causeBy_0 8 rfl rfl)
theorem dX4_causeBy_9 : decode cX4_causeBy 9 = .ok (.ishr, 1) := dk_122 (dk_at dksX4_causeBy_0 9 rfl rfl)
theorem dX4_causeBy_10 : decode cX4_causeBy 10 = .ok (.iconst 1, 1) := dk_4 (dk_at dksX4_causeBy_0 10 rfl rfl)
theorem dX4_causeBy_11 : decode cX4_causeBy 11 = .ok (.iand, 1) := dk_126 (dk_at dksX4_causeBy_0 11 rfl rfl)
theorem dX4_causeBy_12 : decode cX4_causeBy 12 = .ok (.ifCond .ne 5, 3) := dk_154 0 5 (dk_at dksX4_causeBy_0 12 rfl rfl)
theorem dX4_causeBy_15 : decode cX4_causeBy 15 = .ok (.iconst 0, 1) := dk_3 (dk_at dksX4_causeBy_0 15 rfl rfl)
theorem dX4_causeBy_16 : decode cX4_causeBy 16 = .ok (.ireturn, 1) := dk_172 (dk_at dksX4_causeBy_0 16 rfl rfl)
theorem dX4_causeBy_17 : decode cX4_causeBy 17 = .ok (.iconst 0, 1) := dk_3 (dk_at dksX4_causeBy_0 17 rfl rfl)
theorem dX4_causeBy_18 : decode cX4_causeBy 18 = .ok (.istore_n 2, 1) := dk_61 (dk_at dksX4_causeBy_0 18 rfl rfl)
theorem dX4_causeBy_19 : decode cX4_causeBy 19 = .ok (.iload_n 2, 1) := dk_28 (dk_at dksX4_causeBy_0 19 rfl rfl)
theorem dX4_causeBy_20 : decode cX4_causeBy 20 = .ok (.aload_n 0, 1) := dk_42 (dk_at dksX4_causeBy_0 20 rfl rfl)
theorem dX4_causeBy_21 : decode cX4_causeBy 21 = .ok (.getfield 7, 3) := dk_180 0 7 (dk_at dksX4_causeBy_0 21 rfl rfl)
theorem dX4_causeBy_24 : decode cX4_causeBy 24 = .ok (.sipush 234, 3) := dk_17 0 234 (dk_at dksX4_causeBy_1 0 rfl rfl)
theorem dX4_causeBy_27 : decode cX4_causeBy 27 = .ok (.iaload, 1) := dk_46 (dk_at dksX4_causeBy_1 3 rfl rfl)
theorem dX4_causeBy_28 : decode cX4_causeBy 28 = .ok (.if_icmp .ge 42, 3) := dk_162 0 42 (dk_at dksX4_causeBy_1 4 rfl rfl)
theorem dX4_causeBy_31 : decode cX4_causeBy 31 = .ok (.iload_n 2, 1) := dk_28 (dk_at dksX4_causeBy_1 7 rfl rfl)
theorem dX4_causeBy_32 : decode cX4_causeBy 32 = .ok (.aload_n 0, 1) := dk_42 (dk_at dksX4_causeBy_1 8 rfl rfl)
theorem dX4_causeBy_33 : decode cX4_causeBy 33 = .ok (.getfield 7, 3) := dk_180 0 7 (dk_at dksX4_causeBy_1 9 rfl rfl)
theorem dX4_causeBy_36 : decode cX4_causeBy 36 = .ok (.iconst 1, 1) := dk_4 (dk_at dksX4_causeBy_1 12 rfl rfl)
theorem dX4_causeBy_37 : decode cX4_causeBy 37 = .ok (.iaload, 1) := dk_46 (dk_at dksX4_causeBy_1 13 rfl rfl)
theorem dX4_causeBy_38 : decode cX4_causeBy 38 = .ok (.aload_n 0, 1) := dk_42 (dk_at dksX4_causeBy_1 14 rfl rfl)
theorem dX4_causeBy_39 : decode cX4_causeBy 39 = .ok (.getfield 7, 3) := dk_180 0 7 (dk_at dksX4_causeBy_1 15 rfl rfl)
theorem dX4_causeBy_42 : decode cX4_causeBy 42 = .ok (.iconst 2, 1) := dk_5 (dk_at dksX4_causeBy_1 18 rfl rfl)
theorem dX4_causeBy_43 : decode cX4_causeBy 43 = .ok (.iaload, 1) := dk_46 (dk_at dksX4_causeBy_1 19 rfl rfl)
theorem dX4_causeBy_44 : decode cX4_causeBy 44 = .ok (.imul, 1) := dk_104 (dk_at dksX4_causeBy_1 20 rfl rfl)
theorem dX4_causeBy_45 : decode cX4_causeBy 45 = .ok (.if_icmp .ge 25, 3) := dk_162 0 25 (dk_at dksX4_causeBy_1 21 rfl rfl)
theorem dX4_causeBy_48 : decode cX4_causeBy 48 = .ok (.aload_n 0, 1) := dk_42 (dk_at dksX4_causeBy_2 0 rfl rfl)
theorem dX4_causeBy_49 : decode cX4_causeBy 49 = .ok (.getfield 7, 3) := dk_180 0 7 (dk_at dksX4_causeBy_2 1 rfl rfl)
theorem dX4_causeBy_52 : decode cX4_causeBy 52 = .ok (.sipush 235, 3) := dk_17 0 235 (dk_at dksX4_causeBy_2 4 rfl rfl)
theorem dX4_causeBy_55 : decode cX4_causeBy 55 = .ok (.iload_n 2, 1) := dk_28 (dk_at dksX4_causeBy_2 7 rfl rfl)
theorem dX4_causeBy_56 : decode cX4_causeBy 56 = .ok (.iadd, 1) := dk_96 (dk_at dksX4_causeBy_2 8 rfl rfl)
theorem dX4_causeBy_57 : decode cX4_causeBy 57 = .ok (.iaload, 1) := dk_46 (dk_at dksX4_causeBy_2 9 rfl rfl)
theorem dX4_causeBy_58 : decode cX4_causeBy 58 = .ok (.iload_n 1, 1) := dk_27 (dk_at dksX4_causeBy_2 10 rfl rfl)
theorem dX4_causeBy_59 : decode cX4_causeBy 59 = .ok (.if_icmp .ne 5, 3) := dk_160 0 5 (dk_at dksX4_causeBy_2 11 rfl rfl)
theorem dX4_causeBy_62 : decode cX4_causeBy 62 = .ok (.iconst 2, 1) := dk_5 (dk_at dksX4_causeBy_2 14 rfl rfl)
theorem dX4_causeBy_63 : decode cX4_causeBy 63 = .ok (.ireturn, 1) := dk_172 (dk_at dksX4_causeBy_2 15 rfl rfl)
theorem dX4_causeBy_64 : decode cX4_causeBy 64 = .ok (.iinc 2 1, 3) := dk_132 2 1 (dk_at dksX4_causeBy_2 16 rfl rfl)
theorem dX4_causeBy_67 : decode cX4_causeBy 67 = .ok (.goto (-48), 3) := dk_167 255 208 (dk_at dksX4_causeBy_2 19 rfl rfl)
theorem dX4_causeBy_70 : decode cX4_causeBy 70 = .ok (.iconst 1, 1) := dk_4 (dk_at dksX4_causeBy_2 22 rfl rfl)
theorem dX4_causeBy_71 : decode cX4_causeBy 71 = .ok (.ireturn, 1) := dk_172 (dk_at dksX4_causeBy_2 23 rfl rfl)
abbrev cX4_writesBack : ByteArray := prog_15_method_21_code
def yX4_writesBack : MethodName := ⟨RX4, "writesBack", "(I)I"⟩
def dkwX4_writesBack_5 : List UInt8 := [79, 28, 172]
abbrev dktX4_writesBack_5 : List UInt8 := dkwX4_writesBack_5 ++ []
def dkwX4_writesBack_4 : List UInt8 := [167, 255, 197, 42, 180, 0, 7, 16, 89, 27, 96, 3, 79, 42, 180, 0, 7, 17, 1, 33, 92, 46, 28, 96]
abbrev dktX4_writesBack_4 : List UInt8 := dkwX4_writesBack_4 ++ dktX4_writesBack_5
def dkwX4_writesBack_3 : List UInt8 := [104, 96, 29, 96, 42, 180, 0, 7, 17, 0, 169, 7, 27, 104, 96, 29, 96, 46, 79, 132, 3, 1]
abbrev dktX4_writesBack_3 : List UInt8 := dkwX4_writesBack_3 ++ dktX4_writesBack_4
def dkwX4_writesBack_2 : List UInt8 := [46, 29, 122, 4, 126, 4, 160, 0, 37, 42, 180, 0, 7, 8, 7, 42, 180, 0, 7, 16, 73, 27, 96, 46]
abbrev dktX4_writesBack_2 : List UInt8 := dkwX4_writesBack_2 ++ dktX4_writesBack_3
def dkwX4_writesBack_1 : List UInt8 := [16, 73, 27, 96, 46, 28, 182, 0, 87, 3, 62, 29, 7, 162, 0, 60, 42, 180, 0, 7, 16, 89, 27, 96]
abbrev dktX4_writesBack_1 : List UInt8 := dkwX4_writesBack_1 ++ dktX4_writesBack_2
def dkwX4_writesBack_0 : List UInt8 := [42, 180, 0, 7, 16, 89, 27, 96, 46, 184, 0, 76, 61, 28, 154, 0, 5, 3, 172, 42, 42, 180, 0, 7]
abbrev dktX4_writesBack_0 : List UInt8 := dkwX4_writesBack_0 ++ dktX4_writesBack_1
theorem dksX4_writesBack_0 : cX4_writesBack.data.toList.drop 0 = dktX4_writesBack_0 := by decide +kernel
theorem dksX4_writesBack_1 : cX4_writesBack.data.toList.drop 24 = dktX4_writesBack_1 := dk_seg dksX4_writesBack_0 24 rfl rfl
theorem dksX4_writesBack_2 : cX4_writesBack.data.toList.drop 48 = dktX4_writesBack_2 := dk_seg dksX4_writesBack_1 24 rfl rfl
theorem dksX4_writesBack_3 : cX4_writesBack.data.toList.drop 72 = dktX4_writesBack_3 := dk_seg dksX4_writesBack_2 24 rfl rfl
theorem dksX4_writesBack_4 : cX4_writesBack.data.toList.drop 94 = dktX4_writesBack_4 := dk_seg dksX4_writesBack_3 22 rfl rfl
theorem dksX4_writesBack_5 : cX4_writesBack.data.toList.drop 118 = dktX4_writesBack_5 := dk_seg dksX4_writesBack_4 24 rfl rfl
theorem dX4_writesBack_0 : decode cX4_writesBack 0 = .ok (.aload_n 0, 1) := dk_42 (dk_at dksX4_writesBack_0 0 rfl rfl)
theorem dX4_writesBack_1 : decode cX4_writesBack 1 = .ok (.getfield 7, 3) := dk_180 0 7 (dk_at dksX4_writesBack_0 1 rfl rfl)
theorem dX4_writesBack_4 : decode cX4_writesBack 4 = .ok (.bipush 89, 2) := dk_16 89 (dk_at dksX4_writesBack_0 4 rfl rfl)
theorem dX4_writesBack_6 : decode cX4_writesBack 6 = .ok (.iload_n 1, 1) := dk_27 (dk_at dksX4_writesBack_0 6 rfl rfl)
theorem dX4_writesBack_7 : decode cX4_writesBack 7 = .ok (.iadd, 1) := dk_96 (dk_at dksX4_writesBack_0 7 rfl rfl)
theorem dX4_writesBack_8 : decode cX4_writesBack 8 = .ok (.iaload, 1) := dk_46 (dk_at dksX4_writesBack_0 8 rfl rfl)
theorem dX4_writesBack_9 : decode cX4_writesBack 9 = .ok (.invokestatic 76, 3) := dk_184 0 76 (dk_at dksX4_writesBack_0 9 rfl rfl)
theorem dX4_writesBack_12 : decode cX4_writesBack 12 = .ok (.istore_n 2, 1) := dk_61 (dk_at dksX4_writesBack_0 12 rfl rfl)
theorem dX4_writesBack_13 : decode cX4_writesBack 13 = .ok (.iload_n 2, 1) := dk_28 (dk_at dksX4_writesBack_0 13 rfl rfl)
theorem dX4_writesBack_14 : decode cX4_writesBack 14 = .ok (.ifCond .ne 5, 3) := dk_154 0 5 (dk_at dksX4_writesBack_0 14 rfl rfl)
theorem dX4_writesBack_17 : decode cX4_writesBack 17 = .ok (.iconst 0, 1) := dk_3 (dk_at dksX4_writesBack_0 17 rfl rfl)
theorem dX4_writesBack_18 : decode cX4_writesBack 18 = .ok (.ireturn, 1) := dk_172 (dk_at dksX4_writesBack_0 18 rfl rfl)
theorem dX4_writesBack_19 : decode cX4_writesBack 19 = .ok (.aload_n 0, 1) := dk_42 (dk_at dksX4_writesBack_0 19 rfl rfl)
theorem dX4_writesBack_20 : decode cX4_writesBack 20 = .ok (.aload_n 0, 1) := dk_42 (dk_at dksX4_writesBack_0 20 rfl rfl)
theorem dX4_writesBack_21 : decode cX4_writesBack 21 = .ok (.getfield 7, 3) := dk_180 0 7 (dk_at dksX4_writesBack_0 21 rfl rfl)
theorem dX4_writesBack_24 : decode cX4_writesBack 24 = .ok (.bipush 73, 2) := dk_16 73 (dk_at dksX4_writesBack_1 0 rfl rfl)
theorem dX4_writesBack_26 : decode cX4_writesBack 26 = .ok (.iload_n 1, 1) := dk_27 (dk_at dksX4_writesBack_1 2 rfl rfl)
theorem dX4_writesBack_27 : decode cX4_writesBack 27 = .ok (.iadd, 1) := dk_96 (dk_at dksX4_writesBack_1 3 rfl rfl)
theorem dX4_writesBack_28 : decode cX4_writesBack 28 = .ok (.iaload, 1) := dk_46 (dk_at dksX4_writesBack_1 4 rfl rfl)
theorem dX4_writesBack_29 : decode cX4_writesBack 29 = .ok (.iload_n 2, 1) := dk_28 (dk_at dksX4_writesBack_1 5 rfl rfl)
theorem dX4_writesBack_30 : decode cX4_writesBack 30 = .ok (.invokevirtual 87, 3) := dk_182 0 87 (dk_at dksX4_writesBack_1 6 rfl rfl)
theorem dX4_writesBack_33 : decode cX4_writesBack 33 = .ok (.iconst 0, 1) := dk_3 (dk_at dksX4_writesBack_1 9 rfl rfl)
theorem dX4_writesBack_34 : decode cX4_writesBack 34 = .ok (.istore_n 3, 1) := dk_62 (dk_at dksX4_writesBack_1 10 rfl rfl)
theorem dX4_writesBack_35 : decode cX4_writesBack 35 = .ok (.iload_n 3, 1) := dk_29 (dk_at dksX4_writesBack_1 11 rfl rfl)
theorem dX4_writesBack_36 : decode cX4_writesBack 36 = .ok (.iconst 4, 1) := dk_7 (dk_at dksX4_writesBack_1 12 rfl rfl)
theorem dX4_writesBack_37 : decode cX4_writesBack 37 = .ok (.if_icmp .ge 60, 3) := dk_162 0 60 (dk_at dksX4_writesBack_1 13 rfl rfl)
theorem dX4_writesBack_40 : decode cX4_writesBack 40 = .ok (.aload_n 0, 1) := dk_42 (dk_at dksX4_writesBack_1 16 rfl rfl)
theorem dX4_writesBack_41 : decode cX4_writesBack 41 = .ok (.getfield 7, 3) := dk_180 0 7 (dk_at dksX4_writesBack_1 17 rfl rfl)
theorem dX4_writesBack_44 : decode cX4_writesBack 44 = .ok (.bipush 89, 2) := dk_16 89 (dk_at dksX4_writesBack_1 20 rfl rfl)
theorem dX4_writesBack_46 : decode cX4_writesBack 46 = .ok (.iload_n 1, 1) := dk_27 (dk_at dksX4_writesBack_1 22 rfl rfl)
theorem dX4_writesBack_47 : decode cX4_writesBack 47 = .ok (.iadd, 1) := dk_96 (dk_at dksX4_writesBack_1 23 rfl rfl)
theorem dX4_writesBack_48 : decode cX4_writesBack 48 = .ok (.iaload, 1) := dk_46 (dk_at dksX4_writesBack_2 0 rfl rfl)
theorem dX4_writesBack_49 : decode cX4_writesBack 49 = .ok (.iload_n 3, 1) := dk_29 (dk_at dksX4_writesBack_2 1 rfl rfl)
theorem dX4_writesBack_50 : decode cX4_writesBack 50 = .ok (.ishr, 1) := dk_122 (dk_at dksX4_writesBack_2 2 rfl rfl)
theorem dX4_writesBack_51 : decode cX4_writesBack 51 = .ok (.iconst 1, 1) := dk_4 (dk_at dksX4_writesBack_2 3 rfl rfl)
theorem dX4_writesBack_52 : decode cX4_writesBack 52 = .ok (.iand, 1) := dk_126 (dk_at dksX4_writesBack_2 4 rfl rfl)
theorem dX4_writesBack_53 : decode cX4_writesBack 53 = .ok (.iconst 1, 1) := dk_4 (dk_at dksX4_writesBack_2 5 rfl rfl)
theorem dX4_writesBack_54 : decode cX4_writesBack 54 = .ok (.if_icmp .ne 37, 3) := dk_160 0 37 (dk_at dksX4_writesBack_2 6 rfl rfl)
theorem dX4_writesBack_57 : decode cX4_writesBack 57 = .ok (.aload_n 0, 1) := dk_42 (dk_at dksX4_writesBack_2 9 rfl rfl)
theorem dX4_writesBack_58 : decode cX4_writesBack 58 = .ok (.getfield 7, 3) := dk_180 0 7 (dk_at dksX4_writesBack_2 10 rfl rfl)
theorem dX4_writesBack_61 : decode cX4_writesBack 61 = .ok (.iconst 5, 1) := dk_8 (dk_at dksX4_writesBack_2 13 rfl rfl)
theorem dX4_writesBack_62 : decode cX4_writesBack 62 = .ok (.iconst 4, 1) := dk_7 (dk_at dksX4_writesBack_2 14 rfl rfl)
theorem dX4_writesBack_63 : decode cX4_writesBack 63 = .ok (.aload_n 0, 1) := dk_42 (dk_at dksX4_writesBack_2 15 rfl rfl)
theorem dX4_writesBack_64 : decode cX4_writesBack 64 = .ok (.getfield 7, 3) := dk_180 0 7 (dk_at dksX4_writesBack_2 16 rfl rfl)
theorem dX4_writesBack_67 : decode cX4_writesBack 67 = .ok (.bipush 73, 2) := dk_16 73 (dk_at dksX4_writesBack_2 19 rfl rfl)
theorem dX4_writesBack_69 : decode cX4_writesBack 69 = .ok (.iload_n 1, 1) := dk_27 (dk_at dksX4_writesBack_2 21 rfl rfl)
theorem dX4_writesBack_70 : decode cX4_writesBack 70 = .ok (.iadd, 1) := dk_96 (dk_at dksX4_writesBack_2 22 rfl rfl)
theorem dX4_writesBack_71 : decode cX4_writesBack 71 = .ok (.iaload, 1) := dk_46 (dk_at dksX4_writesBack_2 23 rfl rfl)
theorem dX4_writesBack_72 : decode cX4_writesBack 72 = .ok (.imul, 1) := dk_104 (dk_at dksX4_writesBack_3 0 rfl rfl)
theorem dX4_writesBack_73 : decode cX4_writesBack 73 = .ok (.iadd, 1) := dk_96 (dk_at dksX4_writesBack_3 1 rfl rfl)
theorem dX4_writesBack_74 : decode cX4_writesBack 74 = .ok (.iload_n 3, 1) := dk_29 (dk_at dksX4_writesBack_3 2 rfl rfl)
theorem dX4_writesBack_75 : decode cX4_writesBack 75 = .ok (.iadd, 1) := dk_96 (dk_at dksX4_writesBack_3 3 rfl rfl)
theorem dX4_writesBack_76 : decode cX4_writesBack 76 = .ok (.aload_n 0, 1) := dk_42 (dk_at dksX4_writesBack_3 4 rfl rfl)
theorem dX4_writesBack_77 : decode cX4_writesBack 77 = .ok (.getfield 7, 3) := dk_180 0 7 (dk_at dksX4_writesBack_3 5 rfl rfl)
theorem dX4_writesBack_80 : decode cX4_writesBack 80 = .ok (.sipush 169, 3) := dk_17 0 169 (dk_at dksX4_writesBack_3 8 rfl rfl)
theorem dX4_writesBack_83 : decode cX4_writesBack 83 = .ok (.iconst 4, 1) := dk_7 (dk_at dksX4_writesBack_3 11 rfl rfl)
theorem dX4_writesBack_84 : decode cX4_writesBack 84 = .ok (.iload_n 1, 1) := dk_27 (dk_at dksX4_writesBack_3 12 rfl rfl)
theorem dX4_writesBack_85 : decode cX4_writesBack 85 = .ok (.imul, 1) := dk_104 (dk_at dksX4_writesBack_3 13 rfl rfl)
theorem dX4_writesBack_86 : decode cX4_writesBack 86 = .ok (.iadd, 1) := dk_96 (dk_at dksX4_writesBack_3 14 rfl rfl)
theorem dX4_writesBack_87 : decode cX4_writesBack 87 = .ok (.iload_n 3, 1) := dk_29 (dk_at dksX4_writesBack_3 15 rfl rfl)
theorem dX4_writesBack_88 : decode cX4_writesBack 88 = .ok (.iadd, 1) := dk_96 (dk_at dksX4_writesBack_3 16 rfl rfl)
theorem dX4_writesBack_89 : decode cX4_writesBack 89 = .ok (.iaload, 1) := dk_46 (dk_at dksX4_writesBack_3 17 rfl rfl)
theorem dX4_writesBack_90 : decode cX4_writesBack 90 = .ok (.iastore, 1) := dk_79 (dk_at dksX4_writesBack_3 18 rfl rfl)
theorem dX4_writesBack_91 : decode cX4_writesBack 91 = .ok (.iinc 3 1, 3) := dk_132 3 1 (dk_at dksX4_writesBack_3 19 rfl rfl)
theorem dX4_writesBack_94 : decode cX4_writesBack 94 = .ok (.goto (-59), 3) := dk_167 255 197 (dk_at dksX4_writesBack_4 0 rfl rfl)
theorem dX4_writesBack_97 : decode cX4_writesBack 97 = .ok (.aload_n 0, 1) := dk_42 (dk_at dksX4_writesBack_4 3 rfl rfl)
theorem dX4_writesBack_98 : decode cX4_writesBack 98 = .ok (.getfield 7, 3) := dk_180 0 7 (dk_at dksX4_writesBack_4 4 rfl rfl)
theorem dX4_writesBack_101 : decode cX4_writesBack 101 = .ok (.bipush 89, 2) := dk_16 89 (dk_at dksX4_writesBack_4 7 rfl rfl)
theorem dX4_writesBack_103 : decode cX4_writesBack 103 = .ok (.iload_n 1, 1) := dk_27 (dk_at dksX4_writesBack_4 9 rfl rfl)
theorem dX4_writesBack_104 : decode cX4_writesBack 104 = .ok (.iadd, 1) := dk_96 (dk_at dksX4_writesBack_4 10 rfl rfl)
theorem dX4_writesBack_105 : decode cX4_writesBack 105 = .ok (.iconst 0, 1) := dk_3 (dk_at dksX4_writesBack_4 11 rfl rfl)
theorem dX4_writesBack_106 : decode cX4_writesBack 106 = .ok (.iastore, 1) := dk_79 (dk_at dksX4_writesBack_4 12 rfl rfl)
theorem dX4_writesBack_107 : decode cX4_writesBack 107 = .ok (.aload_n 0, 1) := dk_42 (dk_at dksX4_writesBack_4 13 rfl rfl)
theorem dX4_writesBack_108 : decode cX4_writesBack 108 = .ok (.getfield 7, 3) := dk_180 0 7 (dk_at dksX4_writesBack_4 14 rfl rfl)
theorem dX4_writesBack_111 : decode cX4_writesBack 111 = .ok (.sipush 289, 3) := dk_17 1 33 (dk_at dksX4_writesBack_4 17 rfl rfl)
theorem dX4_writesBack_114 : decode cX4_writesBack 114 = .ok (.dup2, 1) := dk_92 (dk_at dksX4_writesBack_4 20 rfl rfl)
theorem dX4_writesBack_115 : decode cX4_writesBack 115 = .ok (.iaload, 1) := dk_46 (dk_at dksX4_writesBack_4 21 rfl rfl)
theorem dX4_writesBack_116 : decode cX4_writesBack 116 = .ok (.iload_n 2, 1) := dk_28 (dk_at dksX4_writesBack_4 22 rfl rfl)
theorem dX4_writesBack_117 : decode cX4_writesBack 117 = .ok (.iadd, 1) := dk_96 (dk_at dksX4_writesBack_4 23 rfl rfl)
theorem dX4_writesBack_118 : decode cX4_writesBack 118 = .ok (.iastore, 1) := dk_79 (dk_at dksX4_writesBack_5 0 rfl rfl)
theorem dX4_writesBack_119 : decode cX4_writesBack 119 = .ok (.iload_n 2, 1) := dk_28 (dk_at dksX4_writesBack_5 1 rfl rfl)
theorem dX4_writesBack_120 : decode cX4_writesBack 120 = .ok (.ireturn, 1) := dk_172 (dk_at dksX4_writesBack_5 2 rfl rfl)
abbrev cX4_uses : ByteArray := prog_15_method_20_code
def yX4_uses : MethodName := ⟨RX4, "uses", "(II)V"⟩
def dkwX4_uses_3 : List UInt8 := [180, 0, 7, 29, 42, 180, 0, 7, 3, 46, 7, 96, 79, 177]
abbrev dktX4_uses_3 : List UInt8 := dkwX4_uses_3 ++ []
def dkwX4_uses_2 : List UInt8 := [180, 0, 7, 3, 42, 180, 0, 7, 29, 46, 79, 42, 180, 0, 7, 3, 92, 46, 28, 96, 79, 42]
abbrev dktX4_uses_2 : List UInt8 := dkwX4_uses_2 ++ dktX4_uses_3
def dkwX4_uses_1 : List UInt8 := [180, 0, 7, 17, 1, 35, 92, 46, 42, 180, 0, 7, 29, 46, 42, 180, 0, 7, 3, 46, 100, 96, 79, 42]
abbrev dktX4_uses_1 : List UInt8 := dkwX4_uses_1 ++ dktX4_uses_2
def dkwX4_uses_0 : List UInt8 := [16, 69, 27, 7, 112, 96, 62, 42, 180, 0, 7, 29, 46, 42, 180, 0, 7, 3, 46, 164, 0, 39, 42]
abbrev dktX4_uses_0 : List UInt8 := dkwX4_uses_0 ++ dktX4_uses_1
theorem dksX4_uses_0 : cX4_uses.data.toList.drop 0 = dktX4_uses_0 := by decide +kernel
theorem dksX4_uses_1 : cX4_uses.data.toList.drop 23 = dktX4_uses_1 := dk_seg dksX4_uses_0 23 rfl rfl
theorem dksX4_uses_2 : cX4_uses.data.toList.drop 47 = dktX4_uses_2 := dk_seg dksX4_uses_1 24 rfl rfl
theorem dksX4_uses_3 : cX4_uses.data.toList.drop 69 = dktX4_uses_3 := dk_seg dksX4_uses_2 22 rfl rfl
theorem dX4_uses_0 : decode cX4_uses 0 = .ok (.bipush 69, 2) := dk_16 69 (dk_at dksX4_uses_0 0 rfl rfl)
theorem dX4_uses_2 : decode cX4_uses 2 = .ok (.iload_n 1, 1) := dk_27 (dk_at dksX4_uses_0 2 rfl rfl)
theorem dX4_uses_3 : decode cX4_uses 3 = .ok (.iconst 4, 1) := dk_7 (dk_at dksX4_uses_0 3 rfl rfl)
theorem dX4_uses_4 : decode cX4_uses 4 = .ok (.irem, 1) := dk_112 (dk_at dksX4_uses_0 4 rfl rfl)
theorem dX4_uses_5 : decode cX4_uses 5 = .ok (.iadd, 1) := dk_96 (dk_at dksX4_uses_0 5 rfl rfl)
theorem dX4_uses_6 : decode cX4_uses 6 = .ok (.istore_n 3, 1) := dk_62 (dk_at dksX4_uses_0 6 rfl rfl)
theorem dX4_uses_7 : decode cX4_uses 7 = .ok (.aload_n 0, 1) := dk_42 (dk_at dksX4_uses_0 7 rfl rfl)
theorem dX4_uses_8 : decode cX4_uses 8 = .ok (.getfield 7, 3) := dk_180 0 7 (dk_at dksX4_uses_0 8 rfl rfl)
theorem dX4_uses_11 : decode cX4_uses 11 = .ok (.iload_n 3, 1) := dk_29 (dk_at dksX4_uses_0 11 rfl rfl)
theorem dX4_uses_12 : decode cX4_uses 12 = .ok (.iaload, 1) := dk_46 (dk_at dksX4_uses_0 12 rfl rfl)
theorem dX4_uses_13 : decode cX4_uses 13 = .ok (.aload_n 0, 1) := dk_42 (dk_at dksX4_uses_0 13 rfl rfl)
theorem dX4_uses_14 : decode cX4_uses 14 = .ok (.getfield 7, 3) := dk_180 0 7 (dk_at dksX4_uses_0 14 rfl rfl)
theorem dX4_uses_17 : decode cX4_uses 17 = .ok (.iconst 0, 1) := dk_3 (dk_at dksX4_uses_0 17 rfl rfl)
theorem dX4_uses_18 : decode cX4_uses 18 = .ok (.iaload, 1) := dk_46 (dk_at dksX4_uses_0 18 rfl rfl)
theorem dX4_uses_19 : decode cX4_uses 19 = .ok (.if_icmp .le 39, 3) := dk_164 0 39 (dk_at dksX4_uses_0 19 rfl rfl)
theorem dX4_uses_22 : decode cX4_uses 22 = .ok (.aload_n 0, 1) := dk_42 (dk_at dksX4_uses_0 22 rfl rfl)
theorem dX4_uses_23 : decode cX4_uses 23 = .ok (.getfield 7, 3) := dk_180 0 7 (dk_at dksX4_uses_1 0 rfl rfl)
theorem dX4_uses_26 : decode cX4_uses 26 = .ok (.sipush 291, 3) := dk_17 1 35 (dk_at dksX4_uses_1 3 rfl rfl)
theorem dX4_uses_29 : decode cX4_uses 29 = .ok (.dup2, 1) := dk_92 (dk_at dksX4_uses_1 6 rfl rfl)
theorem dX4_uses_30 : decode cX4_uses 30 = .ok (.iaload, 1) := dk_46 (dk_at dksX4_uses_1 7 rfl rfl)
theorem dX4_uses_31 : decode cX4_uses 31 = .ok (.aload_n 0, 1) := dk_42 (dk_at dksX4_uses_1 8 rfl rfl)
theorem dX4_uses_32 : decode cX4_uses 32 = .ok (.getfield 7, 3) := dk_180 0 7 (dk_at dksX4_uses_1 9 rfl rfl)
theorem dX4_uses_35 : decode cX4_uses 35 = .ok (.iload_n 3, 1) := dk_29 (dk_at dksX4_uses_1 12 rfl rfl)
theorem dX4_uses_36 : decode cX4_uses 36 = .ok (.iaload, 1) := dk_46 (dk_at dksX4_uses_1 13 rfl rfl)
theorem dX4_uses_37 : decode cX4_uses 37 = .ok (.aload_n 0, 1) := dk_42 (dk_at dksX4_uses_1 14 rfl rfl)
theorem dX4_uses_38 : decode cX4_uses 38 = .ok (.getfield 7, 3) := dk_180 0 7 (dk_at dksX4_uses_1 15 rfl rfl)
theorem dX4_uses_41 : decode cX4_uses 41 = .ok (.iconst 0, 1) := dk_3 (dk_at dksX4_uses_1 18 rfl rfl)
theorem dX4_uses_42 : decode cX4_uses 42 = .ok (.iaload, 1) := dk_46 (dk_at dksX4_uses_1 19 rfl rfl)
theorem dX4_uses_43 : decode cX4_uses 43 = .ok (.isub, 1) := dk_100 (dk_at dksX4_uses_1 20 rfl rfl)
theorem dX4_uses_44 : decode cX4_uses 44 = .ok (.iadd, 1) := dk_96 (dk_at dksX4_uses_1 21 rfl rfl)
theorem dX4_uses_45 : decode cX4_uses 45 = .ok (.iastore, 1) := dk_79 (dk_at dksX4_uses_1 22 rfl rfl)
theorem dX4_uses_46 : decode cX4_uses 46 = .ok (.aload_n 0, 1) := dk_42 (dk_at dksX4_uses_1 23 rfl rfl)
theorem dX4_uses_47 : decode cX4_uses 47 = .ok (.getfield 7, 3) := dk_180 0 7 (dk_at dksX4_uses_2 0 rfl rfl)
theorem dX4_uses_50 : decode cX4_uses 50 = .ok (.iconst 0, 1) := dk_3 (dk_at dksX4_uses_2 3 rfl rfl)
theorem dX4_uses_51 : decode cX4_uses 51 = .ok (.aload_n 0, 1) := dk_42 (dk_at dksX4_uses_2 4 rfl rfl)
theorem dX4_uses_52 : decode cX4_uses 52 = .ok (.getfield 7, 3) := dk_180 0 7 (dk_at dksX4_uses_2 5 rfl rfl)
theorem dX4_uses_55 : decode cX4_uses 55 = .ok (.iload_n 3, 1) := dk_29 (dk_at dksX4_uses_2 8 rfl rfl)
theorem dX4_uses_56 : decode cX4_uses 56 = .ok (.iaload, 1) := dk_46 (dk_at dksX4_uses_2 9 rfl rfl)
theorem dX4_uses_57 : decode cX4_uses 57 = .ok (.iastore, 1) := dk_79 (dk_at dksX4_uses_2 10 rfl rfl)
theorem dX4_uses_58 : decode cX4_uses 58 = .ok (.aload_n 0, 1) := dk_42 (dk_at dksX4_uses_2 11 rfl rfl)
theorem dX4_uses_59 : decode cX4_uses 59 = .ok (.getfield 7, 3) := dk_180 0 7 (dk_at dksX4_uses_2 12 rfl rfl)
theorem dX4_uses_62 : decode cX4_uses 62 = .ok (.iconst 0, 1) := dk_3 (dk_at dksX4_uses_2 15 rfl rfl)
theorem dX4_uses_63 : decode cX4_uses 63 = .ok (.dup2, 1) := dk_92 (dk_at dksX4_uses_2 16 rfl rfl)
theorem dX4_uses_64 : decode cX4_uses 64 = .ok (.iaload, 1) := dk_46 (dk_at dksX4_uses_2 17 rfl rfl)
theorem dX4_uses_65 : decode cX4_uses 65 = .ok (.iload_n 2, 1) := dk_28 (dk_at dksX4_uses_2 18 rfl rfl)
theorem dX4_uses_66 : decode cX4_uses 66 = .ok (.iadd, 1) := dk_96 (dk_at dksX4_uses_2 19 rfl rfl)
theorem dX4_uses_67 : decode cX4_uses 67 = .ok (.iastore, 1) := dk_79 (dk_at dksX4_uses_2 20 rfl rfl)
theorem dX4_uses_68 : decode cX4_uses 68 = .ok (.aload_n 0, 1) := dk_42 (dk_at dksX4_uses_2 21 rfl rfl)
theorem dX4_uses_69 : decode cX4_uses 69 = .ok (.getfield 7, 3) := dk_180 0 7 (dk_at dksX4_uses_3 0 rfl rfl)
theorem dX4_uses_72 : decode cX4_uses 72 = .ok (.iload_n 3, 1) := dk_29 (dk_at dksX4_uses_3 3 rfl rfl)
theorem dX4_uses_73 : decode cX4_uses 73 = .ok (.aload_n 0, 1) := dk_42 (dk_at dksX4_uses_3 4 rfl rfl)
theorem dX4_uses_74 : decode cX4_uses 74 = .ok (.getfield 7, 3) := dk_180 0 7 (dk_at dksX4_uses_3 5 rfl rfl)
theorem dX4_uses_77 : decode cX4_uses 77 = .ok (.iconst 0, 1) := dk_3 (dk_at dksX4_uses_3 8 rfl rfl)
theorem dX4_uses_78 : decode cX4_uses 78 = .ok (.iaload, 1) := dk_46 (dk_at dksX4_uses_3 9 rfl rfl)
theorem dX4_uses_79 : decode cX4_uses 79 = .ok (.iconst 4, 1) := dk_7 (dk_at dksX4_uses_3 10 rfl rfl)
theorem dX4_uses_80 : decode cX4_uses 80 = .ok (.iadd, 1) := dk_96 (dk_at dksX4_uses_3 11 rfl rfl)
theorem dX4_uses_81 : decode cX4_uses 81 = .ok (.iastore, 1) := dk_79 (dk_at dksX4_uses_3 12 rfl rfl)
theorem dX4_uses_82 : decode cX4_uses 82 = .ok (.return_, 1) := dk_177 (dk_at dksX4_uses_3 13 rfl rfl)
abbrev cX4_becomesLatest : ByteArray := prog_15_method_24_code
def yX4_becomesLatest : MethodName := ⟨RX4, "becomesLatest", "(I)V"⟩
def dkwX4_becomesLatest_4 : List UInt8 := [42, 180, 0, 7, 17, 0, 235, 27, 79, 177]
abbrev dktX4_becomesLatest_4 : List UInt8 := dkwX4_becomesLatest_4 ++ []
def dkwX4_becomesLatest_3 : List UInt8 := [17, 0, 235, 29, 96, 42, 180, 0, 7, 17, 0, 235, 29, 96, 4, 100, 46, 79, 132, 3, 255, 167, 255, 227]
abbrev dktX4_becomesLatest_3 : List UInt8 := dkwX4_becomesLatest_3 ++ dktX4_becomesLatest_4
def dkwX4_becomesLatest_2 : List UInt8 := [17, 0, 234, 46, 160, 0, 7, 4, 167, 0, 4, 3, 96, 79, 28, 62, 29, 158, 0, 31, 42, 180, 0, 7]
abbrev dktX4_becomesLatest_2 : List UInt8 := dkwX4_becomesLatest_2 ++ dktX4_becomesLatest_3
def dkwX4_becomesLatest_1 : List UInt8 := [27, 159, 0, 9, 132, 2, 1, 167, 255, 227, 42, 180, 0, 7, 17, 0, 234, 92, 46, 28, 42, 180, 0, 7]
abbrev dktX4_becomesLatest_1 : List UInt8 := dkwX4_becomesLatest_1 ++ dktX4_becomesLatest_2
def dkwX4_becomesLatest_0 : List UInt8 := [3, 61, 28, 42, 180, 0, 7, 17, 0, 234, 46, 162, 0, 23, 42, 180, 0, 7, 17, 0, 235, 28, 96, 46]
abbrev dktX4_becomesLatest_0 : List UInt8 := dkwX4_becomesLatest_0 ++ dktX4_becomesLatest_1
theorem dksX4_becomesLatest_0 : cX4_becomesLatest.data.toList.drop 0 = dktX4_becomesLatest_0 := by decide +kernel
theorem dksX4_becomesLatest_1 : cX4_becomesLatest.data.toList.drop 24 = dktX4_becomesLatest_1 := dk_seg dksX4_becomesLatest_0 24 rfl rfl
theorem dksX4_becomesLatest_2 : cX4_becomesLatest.data.toList.drop 48 = dktX4_becomesLatest_2 := dk_seg dksX4_becomesLatest_1 24 rfl rfl
theorem dksX4_becomesLatest_3 : cX4_becomesLatest.data.toList.drop 72 = dktX4_becomesLatest_3 := dk_seg dksX4_becomesLatest_2 24 rfl rfl
theorem dksX4_becomesLatest_4 : cX4_becomesLatest.data.toList.drop 96 = dktX4_becomesLatest_4 := dk_seg dksX4_becomesLatest_3 24 rfl rfl
theorem dX4_becomesLatest_0 : decode cX4_becomesLatest 0 = .ok (.iconst 0, 1) := dk_3 (dk_at dksX4_becomesLatest_0 0 rfl rfl)
theorem dX4_becomesLatest_1 : decode cX4_becomesLatest 1 = .ok (.istore_n 2, 1) := dk_61 (dk_at dksX4_becomesLatest_0 1 rfl rfl)
theorem dX4_becomesLatest_2 : decode cX4_becomesLatest 2 = .ok (.iload_n 2, 1) := dk_28 (dk_at dksX4_becomesLatest_0 2 rfl rfl)
theorem dX4_becomesLatest_3 : decode cX4_becomesLatest 3 = .ok (.aload_n 0, 1) := dk_42 (dk_at dksX4_becomesLatest_0 3 rfl rfl)
theorem dX4_becomesLatest_4 : decode cX4_becomesLatest 4 = .ok (.getfield 7, 3) := dk_180 0 7 (dk_at dksX4_becomesLatest_0 4 rfl rfl)
theorem dX4_becomesLatest_7 : decode cX4_becomesLatest 7 = .ok (.sipush 234, 3) := dk_17 0 234 (dk_at dksX4_becomesLatest_0 7 rfl rfl)
theorem dX4_becomesLatest_10 : decode cX4_becomesLatest 10 = .ok (.iaload, 1) := dk_46 (dk_at dksX4_becomesLatest_0 10 rfl rfl)
theorem dX4_becomesLatest_11 : decode cX4_becomesLatest 11 = .ok (.if_icmp .ge 23, 3) := dk_162 0 23 (dk_at dksX4_becomesLatest_0 11 rfl rfl)
theorem dX4_becomesLatest_14 : decode cX4_becomesLatest 14 = .ok (.aload_n 0, 1) := dk_42 (dk_at dksX4_becomesLatest_0 14 rfl rfl)
theorem dX4_becomesLatest_15 : decode cX4_becomesLatest 15 = .ok (.getfield 7, 3) := dk_180 0 7 (dk_at dksX4_becomesLatest_0 15 rfl rfl)
theorem dX4_becomesLatest_18 : decode cX4_becomesLatest 18 = .ok (.sipush 235, 3) := dk_17 0 235 (dk_at dksX4_becomesLatest_0 18 rfl rfl)
theorem dX4_becomesLatest_21 : decode cX4_becomesLatest 21 = .ok (.iload_n 2, 1) := dk_28 (dk_at dksX4_becomesLatest_0 21 rfl rfl)
theorem dX4_becomesLatest_22 : decode cX4_becomesLatest 22 = .ok (.iadd, 1) := dk_96 (dk_at dksX4_becomesLatest_0 22 rfl rfl)
theorem dX4_becomesLatest_23 : decode cX4_becomesLatest 23 = .ok (.iaload, 1) := dk_46 (dk_at dksX4_becomesLatest_0 23 rfl rfl)
theorem dX4_becomesLatest_24 : decode cX4_becomesLatest 24 = .ok (.iload_n 1, 1) := dk_27 (dk_at dksX4_becomesLatest_1 0 rfl rfl)
theorem dX4_becomesLatest_25 : decode cX4_becomesLatest 25 = .ok (.if_icmp .eq 9, 3) := dk_159 0 9 (dk_at dksX4_becomesLatest_1 1 rfl rfl)
theorem dX4_becomesLatest_28 : decode cX4_becomesLatest 28 = .ok (.iinc 2 1, 3) := dk_132 2 1 (dk_at dksX4_becomesLatest_1 4 rfl rfl)
theorem dX4_becomesLatest_31 : decode cX4_becomesLatest 31 = .ok (.goto (-29), 3) := dk_167 255 227 (dk_at dksX4_becomesLatest_1 7 rfl rfl)
theorem dX4_becomesLatest_34 : decode cX4_becomesLatest 34 = .ok (.aload_n 0, 1) := dk_42 (dk_at dksX4_becomesLatest_1 10 rfl rfl)
theorem dX4_becomesLatest_35 : decode cX4_becomesLatest 35 = .ok (.getfield 7, 3) := dk_180 0 7 (dk_at dksX4_becomesLatest_1 11 rfl rfl)
theorem dX4_becomesLatest_38 : decode cX4_becomesLatest 38 = .ok (.sipush 234, 3) := dk_17 0 234 (dk_at dksX4_becomesLatest_1 14 rfl rfl)
theorem dX4_becomesLatest_41 : decode cX4_becomesLatest 41 = .ok (.dup2, 1) := dk_92 (dk_at dksX4_becomesLatest_1 17 rfl rfl)
theorem dX4_becomesLatest_42 : decode cX4_becomesLatest 42 = .ok (.iaload, 1) := dk_46 (dk_at dksX4_becomesLatest_1 18 rfl rfl)
theorem dX4_becomesLatest_43 : decode cX4_becomesLatest 43 = .ok (.iload_n 2, 1) := dk_28 (dk_at dksX4_becomesLatest_1 19 rfl rfl)
theorem dX4_becomesLatest_44 : decode cX4_becomesLatest 44 = .ok (.aload_n 0, 1) := dk_42 (dk_at dksX4_becomesLatest_1 20 rfl rfl)
theorem dX4_becomesLatest_45 : decode cX4_becomesLatest 45 = .ok (.getfield 7, 3) := dk_180 0 7 (dk_at dksX4_becomesLatest_1 21 rfl rfl)
theorem dX4_becomesLatest_48 : decode cX4_becomesLatest 48 = .ok (.sipush 234, 3) := dk_17 0 234 (dk_at dksX4_becomesLatest_2 0 rfl rfl)
theorem dX4_becomesLatest_51 : decode cX4_becomesLatest 51 = .ok (.iaload, 1) := dk_46 (dk_at dksX4_becomesLatest_2 3 rfl rfl)
theorem dX4_becomesLatest_52 : decode cX4_becomesLatest 52 = .ok (.if_icmp .ne 7, 3) := dk_160 0 7 (dk_at dksX4_becomesLatest_2 4 rfl rfl)
theorem dX4_becomesLatest_55 : decode cX4_becomesLatest 55 = .ok (.iconst 1, 1) := dk_4 (dk_at dksX4_becomesLatest_2 7 rfl rfl)
theorem dX4_becomesLatest_56 : decode cX4_becomesLatest 56 = .ok (.goto 4, 3) := dk_167 0 4 (dk_at dksX4_becomesLatest_2 8 rfl rfl)
theorem dX4_becomesLatest_59 : decode cX4_becomesLatest 59 = .ok (.iconst 0, 1) := dk_3 (dk_at dksX4_becomesLatest_2 11 rfl rfl)
theorem dX4_becomesLatest_60 : decode cX4_becomesLatest 60 = .ok (.iadd, 1) := dk_96 (dk_at dksX4_becomesLatest_2 12 rfl rfl)
theorem dX4_becomesLatest_61 : decode cX4_becomesLatest 61 = .ok (.iastore, 1) := dk_79 (dk_at dksX4_becomesLatest_2 13 rfl rfl)
theorem dX4_becomesLatest_62 : decode cX4_becomesLatest 62 = .ok (.iload_n 2, 1) := dk_28 (dk_at dksX4_becomesLatest_2 14 rfl rfl)
theorem dX4_becomesLatest_63 : decode cX4_becomesLatest 63 = .ok (.istore_n 3, 1) := dk_62 (dk_at dksX4_becomesLatest_2 15 rfl rfl)
theorem dX4_becomesLatest_64 : decode cX4_becomesLatest 64 = .ok (.iload_n 3, 1) := dk_29 (dk_at dksX4_becomesLatest_2 16 rfl rfl)
theorem dX4_becomesLatest_65 : decode cX4_becomesLatest 65 = .ok (.ifCond .le 31, 3) := dk_158 0 31 (dk_at dksX4_becomesLatest_2 17 rfl rfl)
theorem dX4_becomesLatest_68 : decode cX4_becomesLatest 68 = .ok (.aload_n 0, 1) := dk_42 (dk_at dksX4_becomesLatest_2 20 rfl rfl)
theorem dX4_becomesLatest_69 : decode cX4_becomesLatest 69 = .ok (.getfield 7, 3) := dk_180 0 7 (dk_at dksX4_becomesLatest_2 21 rfl rfl)
theorem dX4_becomesLatest_72 : decode cX4_becomesLatest 72 = .ok (.sipush 235, 3) := dk_17 0 235 (dk_at dksX4_becomesLatest_3 0 rfl rfl)
theorem dX4_becomesLatest_75 : decode cX4_becomesLatest 75 = .ok (.iload_n 3, 1) := dk_29 (dk_at dksX4_becomesLatest_3 3 rfl rfl)
theorem dX4_becomesLatest_76 : decode cX4_becomesLatest 76 = .ok (.iadd, 1) := dk_96 (dk_at dksX4_becomesLatest_3 4 rfl rfl)
theorem dX4_becomesLatest_77 : decode cX4_becomesLatest 77 = .ok (.aload_n 0, 1) := dk_42 (dk_at dksX4_becomesLatest_3 5 rfl rfl)
theorem dX4_becomesLatest_78 : decode cX4_becomesLatest 78 = .ok (.getfield 7, 3) := dk_180 0 7 (dk_at dksX4_becomesLatest_3 6 rfl rfl)
theorem dX4_becomesLatest_81 : decode cX4_becomesLatest 81 = .ok (.sipush 235, 3) := dk_17 0 235 (dk_at dksX4_becomesLatest_3 9 rfl rfl)
theorem dX4_becomesLatest_84 : decode cX4_becomesLatest 84 = .ok (.iload_n 3, 1) := dk_29 (dk_at dksX4_becomesLatest_3 12 rfl rfl)
theorem dX4_becomesLatest_85 : decode cX4_becomesLatest 85 = .ok (.iadd, 1) := dk_96 (dk_at dksX4_becomesLatest_3 13 rfl rfl)
theorem dX4_becomesLatest_86 : decode cX4_becomesLatest 86 = .ok (.iconst 1, 1) := dk_4 (dk_at dksX4_becomesLatest_3 14 rfl rfl)
theorem dX4_becomesLatest_87 : decode cX4_becomesLatest 87 = .ok (.isub, 1) := dk_100 (dk_at dksX4_becomesLatest_3 15 rfl rfl)
theorem dX4_becomesLatest_88 : decode cX4_becomesLatest 88 = .ok (.iaload, 1) := dk_46 (dk_at dksX4_becomesLatest_3 16 rfl rfl)
theorem dX4_becomesLatest_89 : decode cX4_becomesLatest 89 = .ok (.iastore, 1) := dk_79 (dk_at dksX4_becomesLatest_3 17 rfl rfl)
theorem dX4_becomesLatest_90 : decode cX4_becomesLatest 90 = .ok (.iinc 3 (-1), 3) := dk_132 3 255 (dk_at dksX4_becomesLatest_3 18 rfl rfl)
theorem dX4_becomesLatest_93 : decode cX4_becomesLatest 93 = .ok (.goto (-29), 3) := dk_167 255 227 (dk_at dksX4_becomesLatest_3 21 rfl rfl)
theorem dX4_becomesLatest_96 : decode cX4_becomesLatest 96 = .ok (.aload_n 0, 1) := dk_42 (dk_at dksX4_becomesLatest_4 0 rfl rfl)
theorem dX4_becomesLatest_97 : decode cX4_becomesLatest 97 = .ok (.getfield 7, 3) := dk_180 0 7 (dk_at dksX4_becomesLatest_4 1 rfl rfl)
theorem dX4_becomesLatest_100 : decode cX4_becomesLatest 100 = .ok (.sipush 235, 3) := dk_17 0 235 (dk_at dksX4_becomesLatest_4 4 rfl rfl)
theorem dX4_becomesLatest_103 : decode cX4_becomesLatest 103 = .ok (.iload_n 1, 1) := dk_27 (dk_at dksX4_becomesLatest_4 7 rfl rfl)
theorem dX4_becomesLatest_104 : decode cX4_becomesLatest 104 = .ok (.iastore, 1) := dk_79 (dk_at dksX4_becomesLatest_4 8 rfl rfl)
theorem dX4_becomesLatest_105 : decode cX4_becomesLatest 105 = .ok (.return_, 1) := dk_177 (dk_at dksX4_becomesLatest_4 9 rfl rfl)
abbrev cX4_done : ByteArray := prog_15_method_4_code
def yX4_done : MethodName := ⟨RX4, "done", "(I)I"⟩
def dkwX4_done_0 : List UInt8 := [42, 3, 181, 0, 42, 27, 172]
abbrev dktX4_done_0 : List UInt8 := dkwX4_done_0 ++ []
theorem dksX4_done_0 : cX4_done.data.toList.drop 0 = dktX4_done_0 := by decide +kernel
theorem dX4_done_0 : decode cX4_done 0 = .ok (.aload_n 0, 1) := dk_42 (dk_at dksX4_done_0 0 rfl rfl)
theorem dX4_done_1 : decode cX4_done 1 = .ok (.iconst 0, 1) := dk_3 (dk_at dksX4_done_0 1 rfl rfl)
theorem dX4_done_2 : decode cX4_done 2 = .ok (.putfield 42, 3) := dk_181 0 42 (dk_at dksX4_done_0 2 rfl rfl)
theorem dX4_done_5 : decode cX4_done 5 = .ok (.iload_n 1, 1) := dk_27 (dk_at dksX4_done_0 5 rfl rfl)
theorem dX4_done_6 : decode cX4_done 6 = .ok (.ireturn, 1) := dk_172 (dk_at dksX4_done_0 6 rfl rfl)
abbrev cX4_kept : ByteArray := prog_15_method_9_code
def yX4_kept : MethodName := ⟨RX4, "kept", "(I)I"⟩
def dkwX4_kept_4 : List UInt8 := [89, 180, 0, 65, 4, 96, 181, 0, 65, 27, 172]
abbrev dktX4_kept_4 : List UInt8 := dkwX4_kept_4 ++ []
def dkwX4_kept_3 : List UInt8 := [181, 0, 65, 42, 180, 0, 13, 3, 42, 180, 0, 16, 42, 180, 0, 65, 17, 1, 101, 104, 184, 0, 61, 42]
abbrev dktX4_kept_3 : List UInt8 := dkwX4_kept_3 ++ dktX4_kept_4
def dkwX4_kept_2 : List UInt8 := [180, 0, 16, 28, 17, 1, 101, 96, 46, 79, 132, 2, 1, 167, 255, 230, 42, 89, 180, 0, 65, 4, 100]
abbrev dktX4_kept_2 : List UInt8 := dkwX4_kept_2 ++ dktX4_kept_3
def dkwX4_kept_1 : List UInt8 := [180, 0, 65, 16, 8, 160, 0, 44, 3, 61, 28, 17, 9, 195, 162, 0, 25, 42, 180, 0, 16, 28, 42]
abbrev dktX4_kept_1 : List UInt8 := dkwX4_kept_1 ++ dktX4_kept_2
def dkwX4_kept_0 : List UInt8 := [42, 180, 0, 42, 153, 0, 18, 42, 180, 0, 13, 3, 42, 180, 0, 7, 3, 184, 0, 61, 3, 172, 42]
abbrev dktX4_kept_0 : List UInt8 := dkwX4_kept_0 ++ dktX4_kept_1
theorem dksX4_kept_0 : cX4_kept.data.toList.drop 0 = dktX4_kept_0 := by decide +kernel
theorem dksX4_kept_1 : cX4_kept.data.toList.drop 23 = dktX4_kept_1 := dk_seg dksX4_kept_0 23 rfl rfl
theorem dksX4_kept_2 : cX4_kept.data.toList.drop 46 = dktX4_kept_2 := dk_seg dksX4_kept_1 23 rfl rfl
theorem dksX4_kept_3 : cX4_kept.data.toList.drop 69 = dktX4_kept_3 := dk_seg dksX4_kept_2 23 rfl rfl
theorem dksX4_kept_4 : cX4_kept.data.toList.drop 93 = dktX4_kept_4 := dk_seg dksX4_kept_3 24 rfl rfl
theorem dX4_kept_0 : decode cX4_kept 0 = .ok (.aload_n 0, 1) := dk_42 (dk_at dksX4_kept_0 0 rfl rfl)
theorem dX4_kept_1 : decode cX4_kept 1 = .ok (.getfield 42, 3) := dk_180 0 42 (dk_at dksX4_kept_0 1 rfl rfl)
theorem dX4_kept_4 : decode cX4_kept 4 = .ok (.ifCond .eq 18, 3) := dk_153 0 18 (dk_at dksX4_kept_0 4 rfl rfl)
theorem dX4_kept_7 : decode cX4_kept 7 = .ok (.aload_n 0, 1) := dk_42 (dk_at dksX4_kept_0 7 rfl rfl)
theorem dX4_kept_8 : decode cX4_kept 8 = .ok (.getfield 13, 3) := dk_180 0 13 (dk_at dksX4_kept_0 8 rfl rfl)
theorem dX4_kept_11 : decode cX4_kept 11 = .ok (.iconst 0, 1) := dk_3 (dk_at dksX4_kept_0 11 rfl rfl)
theorem dX4_kept_12 : decode cX4_kept 12 = .ok (.aload_n 0, 1) := dk_42 (dk_at dksX4_kept_0 12 rfl rfl)
theorem dX4_kept_13 : decode cX4_kept 13 = .ok (.getfield 7, 3) := dk_180 0 7 (dk_at dksX4_kept_0 13 rfl rfl)
theorem dX4_kept_16 : decode cX4_kept 16 = .ok (.iconst 0, 1) := dk_3 (dk_at dksX4_kept_0 16 rfl rfl)
theorem dX4_kept_17 : decode cX4_kept 17 = .ok (.invokestatic 61, 3) := dk_184 0 61 (dk_at dksX4_kept_0 17 rfl rfl)
theorem dX4_kept_20 : decode cX4_kept 20 = .ok (.iconst 0, 1) := dk_3 (dk_at dksX4_kept_0 20 rfl rfl)
theorem dX4_kept_21 : decode cX4_kept 21 = .ok (.ireturn, 1) := dk_172 (dk_at dksX4_kept_0 21 rfl rfl)
theorem dX4_kept_22 : decode cX4_kept 22 = .ok (.aload_n 0, 1) := dk_42 (dk_at dksX4_kept_0 22 rfl rfl)
theorem dX4_kept_23 : decode cX4_kept 23 = .ok (.getfield 65, 3) := dk_180 0 65 (dk_at dksX4_kept_1 0 rfl rfl)
theorem dX4_kept_26 : decode cX4_kept 26 = .ok (.bipush 8, 2) := dk_16 8 (dk_at dksX4_kept_1 3 rfl rfl)
theorem dX4_kept_28 : decode cX4_kept 28 = .ok (.if_icmp .ne 44, 3) := dk_160 0 44 (dk_at dksX4_kept_1 5 rfl rfl)
theorem dX4_kept_31 : decode cX4_kept 31 = .ok (.iconst 0, 1) := dk_3 (dk_at dksX4_kept_1 8 rfl rfl)
theorem dX4_kept_32 : decode cX4_kept 32 = .ok (.istore_n 2, 1) := dk_61 (dk_at dksX4_kept_1 9 rfl rfl)
theorem dX4_kept_33 : decode cX4_kept 33 = .ok (.iload_n 2, 1) := dk_28 (dk_at dksX4_kept_1 10 rfl rfl)
theorem dX4_kept_34 : decode cX4_kept 34 = .ok (.sipush 2499, 3) := dk_17 9 195 (dk_at dksX4_kept_1 11 rfl rfl)
theorem dX4_kept_37 : decode cX4_kept 37 = .ok (.if_icmp .ge 25, 3) := dk_162 0 25 (dk_at dksX4_kept_1 14 rfl rfl)
theorem dX4_kept_40 : decode cX4_kept 40 = .ok (.aload_n 0, 1) := dk_42 (dk_at dksX4_kept_1 17 rfl rfl)
theorem dX4_kept_41 : decode cX4_kept 41 = .ok (.getfield 16, 3) := dk_180 0 16 (dk_at dksX4_kept_1 18 rfl rfl)
theorem dX4_kept_44 : decode cX4_kept 44 = .ok (.iload_n 2, 1) := dk_28 (dk_at dksX4_kept_1 21 rfl rfl)
theorem dX4_kept_45 : decode cX4_kept 45 = .ok (.aload_n 0, 1) := dk_42 (dk_at dksX4_kept_1 22 rfl rfl)
theorem dX4_kept_46 : decode cX4_kept 46 = .ok (.getfield 16, 3) := dk_180 0 16 (dk_at dksX4_kept_2 0 rfl rfl)
theorem dX4_kept_49 : decode cX4_kept 49 = .ok (.iload_n 2, 1) := dk_28 (dk_at dksX4_kept_2 3 rfl rfl)
theorem dX4_kept_50 : decode cX4_kept 50 = .ok (.sipush 357, 3) := dk_17 1 101 (dk_at dksX4_kept_2 4 rfl rfl)
theorem dX4_kept_53 : decode cX4_kept 53 = .ok (.iadd, 1) := dk_96 (dk_at dksX4_kept_2 7 rfl rfl)
theorem dX4_kept_54 : decode cX4_kept 54 = .ok (.iaload, 1) := dk_46 (dk_at dksX4_kept_2 8 rfl rfl)
theorem dX4_kept_55 : decode cX4_kept 55 = .ok (.iastore, 1) := dk_79 (dk_at dksX4_kept_2 9 rfl rfl)
theorem dX4_kept_56 : decode cX4_kept 56 = .ok (.iinc 2 1, 3) := dk_132 2 1 (dk_at dksX4_kept_2 10 rfl rfl)
theorem dX4_kept_59 : decode cX4_kept 59 = .ok (.goto (-26), 3) := dk_167 255 230 (dk_at dksX4_kept_2 13 rfl rfl)
theorem dX4_kept_62 : decode cX4_kept 62 = .ok (.aload_n 0, 1) := dk_42 (dk_at dksX4_kept_2 16 rfl rfl)
theorem dX4_kept_63 : decode cX4_kept 63 = .ok (.dup, 1) := dk_89 (dk_at dksX4_kept_2 17 rfl rfl)
theorem dX4_kept_64 : decode cX4_kept 64 = .ok (.getfield 65, 3) := dk_180 0 65 (dk_at dksX4_kept_2 18 rfl rfl)
theorem dX4_kept_67 : decode cX4_kept 67 = .ok (.iconst 1, 1) := dk_4 (dk_at dksX4_kept_2 21 rfl rfl)
theorem dX4_kept_68 : decode cX4_kept 68 = .ok (.isub, 1) := dk_100 (dk_at dksX4_kept_2 22 rfl rfl)
theorem dX4_kept_69 : decode cX4_kept 69 = .ok (.putfield 65, 3) := dk_181 0 65 (dk_at dksX4_kept_3 0 rfl rfl)
theorem dX4_kept_72 : decode cX4_kept 72 = .ok (.aload_n 0, 1) := dk_42 (dk_at dksX4_kept_3 3 rfl rfl)
theorem dX4_kept_73 : decode cX4_kept 73 = .ok (.getfield 13, 3) := dk_180 0 13 (dk_at dksX4_kept_3 4 rfl rfl)
theorem dX4_kept_76 : decode cX4_kept 76 = .ok (.iconst 0, 1) := dk_3 (dk_at dksX4_kept_3 7 rfl rfl)
theorem dX4_kept_77 : decode cX4_kept 77 = .ok (.aload_n 0, 1) := dk_42 (dk_at dksX4_kept_3 8 rfl rfl)
theorem dX4_kept_78 : decode cX4_kept 78 = .ok (.getfield 16, 3) := dk_180 0 16 (dk_at dksX4_kept_3 9 rfl rfl)
theorem dX4_kept_81 : decode cX4_kept 81 = .ok (.aload_n 0, 1) := dk_42 (dk_at dksX4_kept_3 12 rfl rfl)
theorem dX4_kept_82 : decode cX4_kept 82 = .ok (.getfield 65, 3) := dk_180 0 65 (dk_at dksX4_kept_3 13 rfl rfl)
theorem dX4_kept_85 : decode cX4_kept 85 = .ok (.sipush 357, 3) := dk_17 1 101 (dk_at dksX4_kept_3 16 rfl rfl)
theorem dX4_kept_88 : decode cX4_kept 88 = .ok (.imul, 1) := dk_104 (dk_at dksX4_kept_3 19 rfl rfl)
theorem dX4_kept_89 : decode cX4_kept 89 = .ok (.invokestatic 61, 3) := dk_184 0 61 (dk_at dksX4_kept_3 20 rfl rfl)
theorem dX4_kept_92 : decode cX4_kept 92 = .ok (.aload_n 0, 1) := dk_42 (dk_at dksX4_kept_3 23 rfl rfl)
theorem dX4_kept_93 : decode cX4_kept 93 = .ok (.dup, 1) := dk_89 (dk_at dksX4_kept_4 0 rfl rfl)
theorem dX4_kept_94 : decode cX4_kept 94 = .ok (.getfield 65, 3) := dk_180 0 65 (dk_at dksX4_kept_4 1 rfl rfl)
theorem dX4_kept_97 : decode cX4_kept 97 = .ok (.iconst 1, 1) := dk_4 (dk_at dksX4_kept_4 4 rfl rfl)
theorem dX4_kept_98 : decode cX4_kept 98 = .ok (.iadd, 1) := dk_96 (dk_at dksX4_kept_4 5 rfl rfl)
theorem dX4_kept_99 : decode cX4_kept 99 = .ok (.putfield 65, 3) := dk_181 0 65 (dk_at dksX4_kept_4 6 rfl rfl)
theorem dX4_kept_102 : decode cX4_kept 102 = .ok (.iload_n 1, 1) := dk_27 (dk_at dksX4_kept_4 9 rfl rfl)
theorem dX4_kept_103 : decode cX4_kept 103 = .ok (.ireturn, 1) := dk_172 (dk_at dksX4_kept_4 10 rfl rfl)
abbrev cX4_write : ByteArray := prog_15_method_30_code
def yX4_write : MethodName := ⟨RX4, "write", "(II)I"⟩
def dkwX4_write_0 : List UInt8 := [42, 182, 0, 122, 42, 42, 27, 28, 182, 0, 131, 182, 0, 128, 172]
abbrev dktX4_write_0 : List UInt8 := dkwX4_write_0 ++ []
theorem dksX4_write_0 : cX4_write.data.toList.drop 0 = dktX4_write_0 := by decide +kernel
theorem dX4_write_0 : decode cX4_write 0 = .ok (.aload_n 0, 1) := dk_42 (dk_at dksX4_write_0 0 rfl rfl)
theorem dX4_write_1 : decode cX4_write 1 = .ok (.invokevirtual 122, 3) := dk_182 0 122 (dk_at dksX4_write_0 1 rfl rfl)
theorem dX4_write_4 : decode cX4_write 4 = .ok (.aload_n 0, 1) := dk_42 (dk_at dksX4_write_0 4 rfl rfl)
theorem dX4_write_5 : decode cX4_write 5 = .ok (.aload_n 0, 1) := dk_42 (dk_at dksX4_write_0 5 rfl rfl)
theorem dX4_write_6 : decode cX4_write 6 = .ok (.iload_n 1, 1) := dk_27 (dk_at dksX4_write_0 6 rfl rfl)
theorem dX4_write_7 : decode cX4_write 7 = .ok (.iload_n 2, 1) := dk_28 (dk_at dksX4_write_0 7 rfl rfl)
theorem dX4_write_8 : decode cX4_write 8 = .ok (.invokevirtual 131, 3) := dk_182 0 131 (dk_at dksX4_write_0 8 rfl rfl)
theorem dX4_write_11 : decode cX4_write 11 = .ok (.invokevirtual 128, 3) := dk_182 0 128 (dk_at dksX4_write_0 11 rfl rfl)
theorem dX4_write_14 : decode cX4_write 14 = .ok (.ireturn, 1) := dk_172 (dk_at dksX4_write_0 14 rfl rfl)
abbrev cX4_writes : ByteArray := prog_15_method_29_code
def yX4_writes : MethodName := ⟨RX4, "writes", "(II)I"⟩
def dkwX4_writes_8 : List UInt8 := [182, 0, 119, 172]
abbrev dktX4_writes_8 : List UInt8 := dkwX4_writes_8 ++ []
def dkwX4_writes_7 : List UInt8 := [16, 89, 21, 4, 96, 92, 46, 4, 27, 7, 112, 120, 128, 79, 42, 42, 180, 0, 7, 3, 46, 29, 100]
abbrev dktX4_writes_7 : List UInt8 := dkwX4_writes_7 ++ dktX4_writes_8
def dkwX4_writes_6 : List UInt8 := [2, 130, 126, 79, 42, 180, 0, 7, 17, 1, 34, 92, 46, 4, 96, 79, 167, 0, 21, 42, 180, 0, 7]
abbrev dktX4_writes_6 : List UInt8 := dkwX4_writes_6 ++ dktX4_writes_7
def dkwX4_writes_5 : List UInt8 := [180, 0, 7, 8, 27, 96, 28, 79, 42, 180, 0, 7, 16, 89, 21, 4, 96, 92, 46, 4, 27, 7, 112, 120]
abbrev dktX4_writes_5 : List UInt8 := dkwX4_writes_5 ++ dktX4_writes_6
def dkwX4_writes_4 : List UInt8 := [27, 96, 28, 79, 42, 180, 0, 7, 7, 46, 4, 160, 0, 55, 42, 27, 7, 108, 4, 182, 0, 87, 42]
abbrev dktX4_writes_4 : List UInt8 := dkwX4_writes_4 ++ dktX4_writes_5
def dkwX4_writes_3 : List UInt8 := [180, 0, 7, 17, 0, 169, 7, 21, 4, 104, 96, 27, 7, 112, 96, 28, 79, 42, 180, 0, 7, 17, 1, 37]
abbrev dktX4_writes_3 : List UInt8 := dkwX4_writes_3 ++ dktX4_writes_4
def dkwX4_writes_2 : List UInt8 := [54, 4, 21, 4, 2, 160, 0, 5, 3, 172, 42, 180, 0, 7, 17, 1, 28, 92, 46, 4, 96, 79, 42]
abbrev dktX4_writes_2 : List UInt8 := dkwX4_writes_2 ++ dktX4_writes_3
def dkwX4_writes_1 : List UInt8 := [154, 0, 10, 42, 4, 28, 182, 0, 103, 172, 42, 180, 0, 7, 3, 46, 62, 42, 27, 7, 108, 182, 0, 116]
abbrev dktX4_writes_1 : List UInt8 := dkwX4_writes_1 ++ dktX4_writes_2
def dkwX4_writes_0 : List UInt8 := [27, 184, 0, 113, 154, 0, 10, 42, 4, 27, 182, 0, 103, 172, 28, 17, 252, 25, 17, 3, 231, 184, 0, 68]
abbrev dktX4_writes_0 : List UInt8 := dkwX4_writes_0 ++ dktX4_writes_1
theorem dksX4_writes_0 : cX4_writes.data.toList.drop 0 = dktX4_writes_0 := by decide +kernel
theorem dksX4_writes_1 : cX4_writes.data.toList.drop 24 = dktX4_writes_1 := dk_seg dksX4_writes_0 24 rfl rfl
theorem dksX4_writes_2 : cX4_writes.data.toList.drop 48 = dktX4_writes_2 := dk_seg dksX4_writes_1 24 rfl rfl
theorem dksX4_writes_3 : cX4_writes.data.toList.drop 71 = dktX4_writes_3 := dk_seg dksX4_writes_2 23 rfl rfl
theorem dksX4_writes_4 : cX4_writes.data.toList.drop 95 = dktX4_writes_4 := dk_seg dksX4_writes_3 24 rfl rfl
theorem dksX4_writes_5 : cX4_writes.data.toList.drop 118 = dktX4_writes_5 := dk_seg dksX4_writes_4 23 rfl rfl
theorem dksX4_writes_6 : cX4_writes.data.toList.drop 142 = dktX4_writes_6 := dk_seg dksX4_writes_5 24 rfl rfl
theorem dksX4_writes_7 : cX4_writes.data.toList.drop 165 = dktX4_writes_7 := dk_seg dksX4_writes_6 23 rfl rfl
theorem dksX4_writes_8 : cX4_writes.data.toList.drop 188 = dktX4_writes_8 := dk_seg dksX4_writes_7 23 rfl rfl
theorem dX4_writes_0 : decode cX4_writes 0 = .ok (.iload_n 1, 1) := dk_27 (dk_at dksX4_writes_0 0 rfl rfl)
theorem dX4_writes_1 : decode cX4_writes 1 = .ok (.invokestatic 113, 3) := dk_184 0 113 (dk_at dksX4_writes_0 1 rfl rfl)
theorem dX4_writes_4 : decode cX4_writes 4 = .ok (.ifCond .ne 10, 3) := dk_154 0 10 (dk_at dksX4_writes_0 4 rfl rfl)
theorem dX4_writes_7 : decode cX4_writes 7 = .ok (.aload_n 0, 1) := dk_42 (dk_at dksX4_writes_0 7 rfl rfl)
theorem dX4_writes_8 : decode cX4_writes 8 = .ok (.iconst 1, 1) := dk_4 (dk_at dksX4_writes_0 8 rfl rfl)
theorem dX4_writes_9 : decode cX4_writes 9 = .ok (.iload_n 1, 1) := dk_27 (dk_at dksX4_writes_0 9 rfl rfl)
theorem dX4_writes_10 : decode cX4_writes 10 = .ok (.invokevirtual 103, 3) := dk_182 0 103 (dk_at dksX4_writes_0 10 rfl rfl)
theorem dX4_writes_13 : decode cX4_writes 13 = .ok (.ireturn, 1) := dk_172 (dk_at dksX4_writes_0 13 rfl rfl)
theorem dX4_writes_14 : decode cX4_writes 14 = .ok (.iload_n 2, 1) := dk_28 (dk_at dksX4_writes_0 14 rfl rfl)
theorem dX4_writes_15 : decode cX4_writes 15 = .ok (.sipush (-999), 3) := dk_17 252 25 (dk_at dksX4_writes_0 15 rfl rfl)
theorem dX4_writes_18 : decode cX4_writes 18 = .ok (.sipush 999, 3) := dk_17 3 231 (dk_at dksX4_writes_0 18 rfl rfl)
theorem dX4_writes_21 : decode cX4_writes 21 = .ok (.invokestatic 68, 3) := dk_184 0 68 (dk_at dksX4_writes_0 21 rfl rfl)
theorem dX4_writes_24 : decode cX4_writes 24 = .ok (.ifCond .ne 10, 3) := dk_154 0 10 (dk_at dksX4_writes_1 0 rfl rfl)
theorem dX4_writes_27 : decode cX4_writes 27 = .ok (.aload_n 0, 1) := dk_42 (dk_at dksX4_writes_1 3 rfl rfl)
theorem dX4_writes_28 : decode cX4_writes 28 = .ok (.iconst 1, 1) := dk_4 (dk_at dksX4_writes_1 4 rfl rfl)
theorem dX4_writes_29 : decode cX4_writes 29 = .ok (.iload_n 2, 1) := dk_28 (dk_at dksX4_writes_1 5 rfl rfl)
theorem dX4_writes_30 : decode cX4_writes 30 = .ok (.invokevirtual 103, 3) := dk_182 0 103 (dk_at dksX4_writes_1 6 rfl rfl)
theorem dX4_writes_33 : decode cX4_writes 33 = .ok (.ireturn, 1) := dk_172 (dk_at dksX4_writes_1 9 rfl rfl)
theorem dX4_writes_34 : decode cX4_writes 34 = .ok (.aload_n 0, 1) := dk_42 (dk_at dksX4_writes_1 10 rfl rfl)
theorem dX4_writes_35 : decode cX4_writes 35 = .ok (.getfield 7, 3) := dk_180 0 7 (dk_at dksX4_writes_1 11 rfl rfl)
theorem dX4_writes_38 : decode cX4_writes 38 = .ok (.iconst 0, 1) := dk_3 (dk_at dksX4_writes_1 14 rfl rfl)
theorem dX4_writes_39 : decode cX4_writes 39 = .ok (.iaload, 1) := dk_46 (dk_at dksX4_writes_1 15 rfl rfl)
theorem dX4_writes_40 : decode cX4_writes 40 = .ok (.istore_n 3, 1) := dk_62 (dk_at dksX4_writes_1 16 rfl rfl)
theorem dX4_writes_41 : decode cX4_writes 41 = .ok (.aload_n 0, 1) := dk_42 (dk_at dksX4_writes_1 17 rfl rfl)
theorem dX4_writes_42 : decode cX4_writes 42 = .ok (.iload_n 1, 1) := dk_27 (dk_at dksX4_writes_1 18 rfl rfl)
theorem dX4_writes_43 : decode cX4_writes 43 = .ok (.iconst 4, 1) := dk_7 (dk_at dksX4_writes_1 19 rfl rfl)
theorem dX4_writes_44 : decode cX4_writes 44 = .ok (.idiv, 1) := dk_108 (dk_at dksX4_writes_1 20 rfl rfl)
theorem dX4_writes_45 : decode cX4_writes 45 = .ok (.invokevirtual 116, 3) := dk_182 0 116 (dk_at dksX4_writes_1 21 rfl rfl)
theorem dX4_writes_48 : decode cX4_writes 48 = .ok (.istore 4, 2) := dk_54 4 (dk_at dksX4_writes_2 0 rfl rfl)
theorem dX4_writes_50 : decode cX4_writes 50 = .ok (.iload 4, 2) := dk_21 4 (dk_at dksX4_writes_2 2 rfl rfl)
theorem dX4_writes_52 : decode cX4_writes 52 = .ok (.iconst (-1), 1) := dk_2 (dk_at dksX4_writes_2 4 rfl rfl)
theorem dX4_writes_53 : decode cX4_writes 53 = .ok (.if_icmp .ne 5, 3) := dk_160 0 5 (dk_at dksX4_writes_2 5 rfl rfl)
theorem dX4_writes_56 : decode cX4_writes 56 = .ok (.iconst 0, 1) := dk_3 (dk_at dksX4_writes_2 8 rfl rfl)
theorem dX4_writes_57 : decode cX4_writes 57 = .ok (.ireturn, 1) := dk_172 (dk_at dksX4_writes_2 9 rfl rfl)
theorem dX4_writes_58 : decode cX4_writes 58 = .ok (.aload_n 0, 1) := dk_42 (dk_at dksX4_writes_2 10 rfl rfl)
theorem dX4_writes_59 : decode cX4_writes 59 = .ok (.getfield 7, 3) := dk_180 0 7 (dk_at dksX4_writes_2 11 rfl rfl)
theorem dX4_writes_62 : decode cX4_writes 62 = .ok (.sipush 284, 3) := dk_17 1 28 (dk_at dksX4_writes_2 14 rfl rfl)
theorem dX4_writes_65 : decode cX4_writes 65 = .ok (.dup2, 1) := dk_92 (dk_at dksX4_writes_2 17 rfl rfl)
theorem dX4_writes_66 : decode cX4_writes 66 = .ok (.iaload, 1) := dk_46 (dk_at dksX4_writes_2 18 rfl rfl)
theorem dX4_writes_67 : decode cX4_writes 67 = .ok (.iconst 1, 1) := dk_4 (dk_at dksX4_writes_2 19 rfl rfl)
theorem dX4_writes_68 : decode cX4_writes 68 = .ok (.iadd, 1) := dk_96 (dk_at dksX4_writes_2 20 rfl rfl)
theorem dX4_writes_69 : decode cX4_writes 69 = .ok (.iastore, 1) := dk_79 (dk_at dksX4_writes_2 21 rfl rfl)
theorem dX4_writes_70 : decode cX4_writes 70 = .ok (.aload_n 0, 1) := dk_42 (dk_at dksX4_writes_2 22 rfl rfl)
theorem dX4_writes_71 : decode cX4_writes 71 = .ok (.getfield 7, 3) := dk_180 0 7 (dk_at dksX4_writes_3 0 rfl rfl)
theorem dX4_writes_74 : decode cX4_writes 74 = .ok (.sipush 169, 3) := dk_17 0 169 (dk_at dksX4_writes_3 3 rfl rfl)
theorem dX4_writes_77 : decode cX4_writes 77 = .ok (.iconst 4, 1) := dk_7 (dk_at dksX4_writes_3 6 rfl rfl)
theorem dX4_writes_78 : decode cX4_writes 78 = .ok (.iload 4, 2) := dk_21 4 (dk_at dksX4_writes_3 7 rfl rfl)
theorem dX4_writes_80 : decode cX4_writes 80 = .ok (.imul, 1) := dk_104 (dk_at dksX4_writes_3 9 rfl rfl)
theorem dX4_writes_81 : decode cX4_writes 81 = .ok (.iadd, 1) := dk_96 (dk_at dksX4_writes_3 10 rfl rfl)
theorem dX4_writes_82 : decode cX4_writes 82 = .ok (.iload_n 1, 1) := dk_27 (dk_at dksX4_writes_3 11 rfl rfl)
theorem dX4_writes_83 : decode cX4_writes 83 = .ok (.iconst 4, 1) := dk_7 (dk_at dksX4_writes_3 12 rfl rfl)
theorem dX4_writes_84 : decode cX4_writes 84 = .ok (.irem, 1) := dk_112 (dk_at dksX4_writes_3 13 rfl rfl)
theorem dX4_writes_85 : decode cX4_writes 85 = .ok (.iadd, 1) := dk_96 (dk_at dksX4_writes_3 14 rfl rfl)
theorem dX4_writes_86 : decode cX4_writes 86 = .ok (.iload_n 2, 1) := dk_28 (dk_at dksX4_writes_3 15 rfl rfl)
theorem dX4_writes_87 : decode cX4_writes 87 = .ok (.iastore, 1) := dk_79 (dk_at dksX4_writes_3 16 rfl rfl)
theorem dX4_writes_88 : decode cX4_writes 88 = .ok (.aload_n 0, 1) := dk_42 (dk_at dksX4_writes_3 17 rfl rfl)
theorem dX4_writes_89 : decode cX4_writes 89 = .ok (.getfield 7, 3) := dk_180 0 7 (dk_at dksX4_writes_3 18 rfl rfl)
theorem dX4_writes_92 : decode cX4_writes 92 = .ok (.sipush 293, 3) := dk_17 1 37 (dk_at dksX4_writes_3 21 rfl rfl)
theorem dX4_writes_95 : decode cX4_writes 95 = .ok (.iload_n 1, 1) := dk_27 (dk_at dksX4_writes_4 0 rfl rfl)
theorem dX4_writes_96 : decode cX4_writes 96 = .ok (.iadd, 1) := dk_96 (dk_at dksX4_writes_4 1 rfl rfl)
theorem dX4_writes_97 : decode cX4_writes 97 = .ok (.iload_n 2, 1) := dk_28 (dk_at dksX4_writes_4 2 rfl rfl)
theorem dX4_writes_98 : decode cX4_writes 98 = .ok (.iastore, 1) := dk_79 (dk_at dksX4_writes_4 3 rfl rfl)
theorem dX4_writes_99 : decode cX4_writes 99 = .ok (.aload_n 0, 1) := dk_42 (dk_at dksX4_writes_4 4 rfl rfl)
theorem dX4_writes_100 : decode cX4_writes 100 = .ok (.getfield 7, 3) := dk_180 0 7 (dk_at dksX4_writes_4 5 rfl rfl)
theorem dX4_writes_103 : decode cX4_writes 103 = .ok (.iconst 4, 1) := dk_7 (dk_at dksX4_writes_4 8 rfl rfl)
theorem dX4_writes_104 : decode cX4_writes 104 = .ok (.iaload, 1) := dk_46 (dk_at dksX4_writes_4 9 rfl rfl)
theorem dX4_writes_105 : decode cX4_writes 105 = .ok (.iconst 1, 1) := dk_4 (dk_at dksX4_writes_4 10 rfl rfl)
theorem dX4_writes_106 : decode cX4_writes 106 = .ok (.if_icmp .ne 55, 3) := dk_160 0 55 (dk_at dksX4_writes_4 11 rfl rfl)
theorem dX4_writes_109 : decode cX4_writes 109 = .ok (.aload_n 0, 1) := dk_42 (dk_at dksX4_writes_4 14 rfl rfl)
theorem dX4_writes_110 : decode cX4_writes 110 = .ok (.iload_n 1, 1) := dk_27 (dk_at dksX4_writes_4 15 rfl rfl)
theorem dX4_writes_111 : decode cX4_writes 111 = .ok (.iconst 4, 1) := dk_7 (dk_at dksX4_writes_4 16 rfl rfl)
theorem dX4_writes_112 : decode cX4_writes 112 = .ok (.idiv, 1) := dk_108 (dk_at dksX4_writes_4 17 rfl rfl)
theorem dX4_writes_113 : decode cX4_writes 113 = .ok (.iconst 1, 1) := dk_4 (dk_at dksX4_writes_4 18 rfl rfl)
theorem dX4_writes_114 : decode cX4_writes 114 = .ok (.invokevirtual 87, 3) := dk_182 0 87 (dk_at dksX4_writes_4 19 rfl rfl)
theorem dX4_writes_117 : decode cX4_writes 117 = .ok (.aload_n 0, 1) := dk_42 (dk_at dksX4_writes_4 22 rfl rfl)
theorem dX4_writes_118 : decode cX4_writes 118 = .ok (.getfield 7, 3) := dk_180 0 7 (dk_at dksX4_writes_5 0 rfl rfl)
theorem dX4_writes_121 : decode cX4_writes 121 = .ok (.iconst 5, 1) := dk_8 (dk_at dksX4_writes_5 3 rfl rfl)
theorem dX4_writes_122 : decode cX4_writes 122 = .ok (.iload_n 1, 1) := dk_27 (dk_at dksX4_writes_5 4 rfl rfl)
theorem dX4_writes_123 : decode cX4_writes 123 = .ok (.iadd, 1) := dk_96 (dk_at dksX4_writes_5 5 rfl rfl)
theorem dX4_writes_124 : decode cX4_writes 124 = .ok (.iload_n 2, 1) := dk_28 (dk_at dksX4_writes_5 6 rfl rfl)
theorem dX4_writes_125 : decode cX4_writes 125 = .ok (.iastore, 1) := dk_79 (dk_at dksX4_writes_5 7 rfl rfl)
theorem dX4_writes_126 : decode cX4_writes 126 = .ok (.aload_n 0, 1) := dk_42 (dk_at dksX4_writes_5 8 rfl rfl)
theorem dX4_writes_127 : decode cX4_writes 127 = .ok (.getfield 7, 3) := dk_180 0 7 (dk_at dksX4_writes_5 9 rfl rfl)
theorem dX4_writes_130 : decode cX4_writes 130 = .ok (.bipush 89, 2) := dk_16 89 (dk_at dksX4_writes_5 12 rfl rfl)
theorem dX4_writes_132 : decode cX4_writes 132 = .ok (.iload 4, 2) := dk_21 4 (dk_at dksX4_writes_5 14 rfl rfl)
theorem dX4_writes_134 : decode cX4_writes 134 = .ok (.iadd, 1) := dk_96 (dk_at dksX4_writes_5 16 rfl rfl)
theorem dX4_writes_135 : decode cX4_writes 135 = .ok (.dup2, 1) := dk_92 (dk_at dksX4_writes_5 17 rfl rfl)
theorem dX4_writes_136 : decode cX4_writes 136 = .ok (.iaload, 1) := dk_46 (dk_at dksX4_writes_5 18 rfl rfl)
theorem dX4_writes_137 : decode cX4_writes 137 = .ok (.iconst 1, 1) := dk_4 (dk_at dksX4_writes_5 19 rfl rfl)
theorem dX4_writes_138 : decode cX4_writes 138 = .ok (.iload_n 1, 1) := dk_27 (dk_at dksX4_writes_5 20 rfl rfl)
theorem dX4_writes_139 : decode cX4_writes 139 = .ok (.iconst 4, 1) := dk_7 (dk_at dksX4_writes_5 21 rfl rfl)
theorem dX4_writes_140 : decode cX4_writes 140 = .ok (.irem, 1) := dk_112 (dk_at dksX4_writes_5 22 rfl rfl)
theorem dX4_writes_141 : decode cX4_writes 141 = .ok (.ishl, 1) := dk_120 (dk_at dksX4_writes_5 23 rfl rfl)
theorem dX4_writes_142 : decode cX4_writes 142 = .ok (.iconst (-1), 1) := dk_2 (dk_at dksX4_writes_6 0 rfl rfl)
theorem dX4_writes_143 : decode cX4_writes 143 = .ok (.ixor, 1) := dk_130 (dk_at dksX4_writes_6 1 rfl rfl)
theorem dX4_writes_144 : decode cX4_writes 144 = .ok (.iand, 1) := dk_126 (dk_at dksX4_writes_6 2 rfl rfl)
theorem dX4_writes_145 : decode cX4_writes 145 = .ok (.iastore, 1) := dk_79 (dk_at dksX4_writes_6 3 rfl rfl)
theorem dX4_writes_146 : decode cX4_writes 146 = .ok (.aload_n 0, 1) := dk_42 (dk_at dksX4_writes_6 4 rfl rfl)
theorem dX4_writes_147 : decode cX4_writes 147 = .ok (.getfield 7, 3) := dk_180 0 7 (dk_at dksX4_writes_6 5 rfl rfl)
theorem dX4_writes_150 : decode cX4_writes 150 = .ok (.sipush 290, 3) := dk_17 1 34 (dk_at dksX4_writes_6 8 rfl rfl)
theorem dX4_writes_153 : decode cX4_writes 153 = .ok (.dup2, 1) := dk_92 (dk_at dksX4_writes_6 11 rfl rfl)
theorem dX4_writes_154 : decode cX4_writes 154 = .ok (.iaload, 1) := dk_46 (dk_at dksX4_writes_6 12 rfl rfl)
theorem dX4_writes_155 : decode cX4_writes 155 = .ok (.iconst 1, 1) := dk_4 (dk_at dksX4_writes_6 13 rfl rfl)
theorem dX4_writes_156 : decode cX4_writes 156 = .ok (.iadd, 1) := dk_96 (dk_at dksX4_writes_6 14 rfl rfl)
theorem dX4_writes_157 : decode cX4_writes 157 = .ok (.iastore, 1) := dk_79 (dk_at dksX4_writes_6 15 rfl rfl)
theorem dX4_writes_158 : decode cX4_writes 158 = .ok (.goto 21, 3) := dk_167 0 21 (dk_at dksX4_writes_6 16 rfl rfl)
theorem dX4_writes_161 : decode cX4_writes 161 = .ok (.aload_n 0, 1) := dk_42 (dk_at dksX4_writes_6 19 rfl rfl)
theorem dX4_writes_162 : decode cX4_writes 162 = .ok (.getfield 7, 3) := dk_180 0 7 (dk_at dksX4_writes_6 20 rfl rfl)
theorem dX4_writes_165 : decode cX4_writes 165 = .ok (.bipush 89, 2) := dk_16 89 (dk_at dksX4_writes_7 0 rfl rfl)
theorem dX4_writes_167 : decode cX4_writes 167 = .ok (.iload 4, 2) := dk_21 4 (dk_at dksX4_writes_7 2 rfl rfl)
theorem dX4_writes_169 : decode cX4_writes 169 = .ok (.iadd, 1) := dk_96 (dk_at dksX4_writes_7 4 rfl rfl)
theorem dX4_writes_170 : decode cX4_writes 170 = .ok (.dup2, 1) := dk_92 (dk_at dksX4_writes_7 5 rfl rfl)
theorem dX4_writes_171 : decode cX4_writes 171 = .ok (.iaload, 1) := dk_46 (dk_at dksX4_writes_7 6 rfl rfl)
theorem dX4_writes_172 : decode cX4_writes 172 = .ok (.iconst 1, 1) := dk_4 (dk_at dksX4_writes_7 7 rfl rfl)
theorem dX4_writes_173 : decode cX4_writes 173 = .ok (.iload_n 1, 1) := dk_27 (dk_at dksX4_writes_7 8 rfl rfl)
theorem dX4_writes_174 : decode cX4_writes 174 = .ok (.iconst 4, 1) := dk_7 (dk_at dksX4_writes_7 9 rfl rfl)
theorem dX4_writes_175 : decode cX4_writes 175 = .ok (.irem, 1) := dk_112 (dk_at dksX4_writes_7 10 rfl rfl)
theorem dX4_writes_176 : decode cX4_writes 176 = .ok (.ishl, 1) := dk_120 (dk_at dksX4_writes_7 11 rfl rfl)
theorem dX4_writes_177 : decode cX4_writes 177 = .ok (.ior, 1) := dk_128 (dk_at dksX4_writes_7 12 rfl rfl)
theorem dX4_writes_178 : decode cX4_writes 178 = .ok (.iastore, 1) := dk_79 (dk_at dksX4_writes_7 13 rfl rfl)
theorem dX4_writes_179 : decode cX4_writes 179 = .ok (.aload_n 0, 1) := dk_42 (dk_at dksX4_writes_7 14 rfl rfl)
theorem dX4_writes_180 : decode cX4_writes 180 = .ok (.aload_n 0, 1) := dk_42 (dk_at dksX4_writes_7 15 rfl rfl)
theorem dX4_writes_181 : decode cX4_writes 181 = .ok (.getfield 7, 3) := dk_180 0 7 (dk_at dksX4_writes_7 16 rfl rfl)
theorem dX4_writes_184 : decode cX4_writes 184 = .ok (.iconst 0, 1) := dk_3 (dk_at dksX4_writes_7 19 rfl rfl)
theorem dX4_writes_185 : decode cX4_writes 185 = .ok (.iaload, 1) := dk_46 (dk_at dksX4_writes_7 20 rfl rfl)
theorem dX4_writes_186 : decode cX4_writes 186 = .ok (.iload_n 3, 1) := dk_29 (dk_at dksX4_writes_7 21 rfl rfl)
theorem dX4_writes_187 : decode cX4_writes 187 = .ok (.isub, 1) := dk_100 (dk_at dksX4_writes_7 22 rfl rfl)
theorem dX4_writes_188 : decode cX4_writes 188 = .ok (.invokevirtual 119, 3) := dk_182 0 119 (dk_at dksX4_writes_8 0 rfl rfl)
theorem dX4_writes_191 : decode cX4_writes 191 = .ok (.ireturn, 1) := dk_172 (dk_at dksX4_writes_8 3 rfl rfl)
abbrev cX4_device : ByteArray := prog_15_method_32_code
def yX4_device : MethodName := ⟨RX4, "device", "(II)I"⟩
def dkwX4_device_0 : List UInt8 := [42, 182, 0, 122, 42, 42, 27, 28, 182, 0, 134, 182, 0, 128, 172]
abbrev dktX4_device_0 : List UInt8 := dkwX4_device_0 ++ []
theorem dksX4_device_0 : cX4_device.data.toList.drop 0 = dktX4_device_0 := by decide +kernel
theorem dX4_device_0 : decode cX4_device 0 = .ok (.aload_n 0, 1) := dk_42 (dk_at dksX4_device_0 0 rfl rfl)
theorem dX4_device_1 : decode cX4_device 1 = .ok (.invokevirtual 122, 3) := dk_182 0 122 (dk_at dksX4_device_0 1 rfl rfl)
theorem dX4_device_4 : decode cX4_device 4 = .ok (.aload_n 0, 1) := dk_42 (dk_at dksX4_device_0 4 rfl rfl)
theorem dX4_device_5 : decode cX4_device 5 = .ok (.aload_n 0, 1) := dk_42 (dk_at dksX4_device_0 5 rfl rfl)
theorem dX4_device_6 : decode cX4_device 6 = .ok (.iload_n 1, 1) := dk_27 (dk_at dksX4_device_0 6 rfl rfl)
theorem dX4_device_7 : decode cX4_device 7 = .ok (.iload_n 2, 1) := dk_28 (dk_at dksX4_device_0 7 rfl rfl)
theorem dX4_device_8 : decode cX4_device 8 = .ok (.invokevirtual 134, 3) := dk_182 0 134 (dk_at dksX4_device_0 8 rfl rfl)
theorem dX4_device_11 : decode cX4_device 11 = .ok (.invokevirtual 128, 3) := dk_182 0 128 (dk_at dksX4_device_0 11 rfl rfl)
theorem dX4_device_14 : decode cX4_device 14 = .ok (.ireturn, 1) := dk_172 (dk_at dksX4_device_0 14 rfl rfl)
abbrev cX4_devices : ByteArray := prog_15_method_31_code
def yX4_devices : MethodName := ⟨RX4, "devices", "(II)I"⟩
def dkwX4_devices_4 : List UInt8 := [21, 4, 182, 0, 119, 172]
abbrev dktX4_devices_4 : List UInt8 := dkwX4_devices_4 ++ []
def dkwX4_devices_3 : List UInt8 := [42, 180, 0, 7, 17, 1, 37, 27, 96, 28, 79, 42, 180, 0, 7, 17, 1, 36, 92, 46, 4, 96, 79, 42]
abbrev dktX4_devices_3 : List UInt8 := dkwX4_devices_3 ++ dktX4_devices_4
def dkwX4_devices_2 : List UInt8 := [159, 0, 15, 42, 29, 182, 0, 91, 54, 4, 42, 29, 182, 0, 72, 42, 180, 0, 7, 8, 27, 96, 28, 79]
abbrev dktX4_devices_2 : List UInt8 := dkwX4_devices_2 ++ dktX4_devices_3
def dkwX4_devices_1 : List UInt8 := [154, 0, 10, 42, 4, 28, 182, 0, 103, 172, 42, 27, 7, 108, 182, 0, 97, 62, 3, 54, 4, 29, 2]
abbrev dktX4_devices_1 : List UInt8 := dkwX4_devices_1 ++ dktX4_devices_2
def dkwX4_devices_0 : List UInt8 := [27, 184, 0, 113, 154, 0, 10, 42, 4, 27, 182, 0, 103, 172, 28, 17, 252, 25, 17, 3, 231, 184, 0, 68]
abbrev dktX4_devices_0 : List UInt8 := dkwX4_devices_0 ++ dktX4_devices_1
theorem dksX4_devices_0 : cX4_devices.data.toList.drop 0 = dktX4_devices_0 := by decide +kernel
theorem dksX4_devices_1 : cX4_devices.data.toList.drop 24 = dktX4_devices_1 := dk_seg dksX4_devices_0 24 rfl rfl
theorem dksX4_devices_2 : cX4_devices.data.toList.drop 47 = dktX4_devices_2 := dk_seg dksX4_devices_1 23 rfl rfl
theorem dksX4_devices_3 : cX4_devices.data.toList.drop 71 = dktX4_devices_3 := dk_seg dksX4_devices_2 24 rfl rfl
theorem dksX4_devices_4 : cX4_devices.data.toList.drop 95 = dktX4_devices_4 := dk_seg dksX4_devices_3 24 rfl rfl
theorem dX4_devices_0 : decode cX4_devices 0 = .ok (.iload_n 1, 1) := dk_27 (dk_at dksX4_devices_0 0 rfl rfl)
theorem dX4_devices_1 : decode cX4_devices 1 = .ok (.invokestatic 113, 3) := dk_184 0 113 (dk_at dksX4_devices_0 1 rfl rfl)
theorem dX4_devices_4 : decode cX4_devices 4 = .ok (.ifCond .ne 10, 3) := dk_154 0 10 (dk_at dksX4_devices_0 4 rfl rfl)
theorem dX4_devices_7 : decode cX4_devices 7 = .ok (.aload_n 0, 1) := dk_42 (dk_at dksX4_devices_0 7 rfl rfl)
theorem dX4_devices_8 : decode cX4_devices 8 = .ok (.iconst 1, 1) := dk_4 (dk_at dksX4_devices_0 8 rfl rfl)
theorem dX4_devices_9 : decode cX4_devices 9 = .ok (.iload_n 1, 1) := dk_27 (dk_at dksX4_devices_0 9 rfl rfl)
theorem dX4_devices_10 : decode cX4_devices 10 = .ok (.invokevirtual 103, 3) := dk_182 0 103 (dk_at dksX4_devices_0 10 rfl rfl)
theorem dX4_devices_13 : decode cX4_devices 13 = .ok (.ireturn, 1) := dk_172 (dk_at dksX4_devices_0 13 rfl rfl)
theorem dX4_devices_14 : decode cX4_devices 14 = .ok (.iload_n 2, 1) := dk_28 (dk_at dksX4_devices_0 14 rfl rfl)
theorem dX4_devices_15 : decode cX4_devices 15 = .ok (.sipush (-999), 3) := dk_17 252 25 (dk_at dksX4_devices_0 15 rfl rfl)
theorem dX4_devices_18 : decode cX4_devices 18 = .ok (.sipush 999, 3) := dk_17 3 231 (dk_at dksX4_devices_0 18 rfl rfl)
theorem dX4_devices_21 : decode cX4_devices 21 = .ok (.invokestatic 68, 3) := dk_184 0 68 (dk_at dksX4_devices_0 21 rfl rfl)
theorem dX4_devices_24 : decode cX4_devices 24 = .ok (.ifCond .ne 10, 3) := dk_154 0 10 (dk_at dksX4_devices_1 0 rfl rfl)
theorem dX4_devices_27 : decode cX4_devices 27 = .ok (.aload_n 0, 1) := dk_42 (dk_at dksX4_devices_1 3 rfl rfl)
theorem dX4_devices_28 : decode cX4_devices 28 = .ok (.iconst 1, 1) := dk_4 (dk_at dksX4_devices_1 4 rfl rfl)
theorem dX4_devices_29 : decode cX4_devices 29 = .ok (.iload_n 2, 1) := dk_28 (dk_at dksX4_devices_1 5 rfl rfl)
theorem dX4_devices_30 : decode cX4_devices 30 = .ok (.invokevirtual 103, 3) := dk_182 0 103 (dk_at dksX4_devices_1 6 rfl rfl)
theorem dX4_devices_33 : decode cX4_devices 33 = .ok (.ireturn, 1) := dk_172 (dk_at dksX4_devices_1 9 rfl rfl)
theorem dX4_devices_34 : decode cX4_devices 34 = .ok (.aload_n 0, 1) := dk_42 (dk_at dksX4_devices_1 10 rfl rfl)
theorem dX4_devices_35 : decode cX4_devices 35 = .ok (.iload_n 1, 1) := dk_27 (dk_at dksX4_devices_1 11 rfl rfl)
theorem dX4_devices_36 : decode cX4_devices 36 = .ok (.iconst 4, 1) := dk_7 (dk_at dksX4_devices_1 12 rfl rfl)
theorem dX4_devices_37 : decode cX4_devices 37 = .ok (.idiv, 1) := dk_108 (dk_at dksX4_devices_1 13 rfl rfl)
theorem dX4_devices_38 : decode cX4_devices 38 = .ok (.invokevirtual 97, 3) := dk_182 0 97 (dk_at dksX4_devices_1 14 rfl rfl)
theorem dX4_devices_41 : decode cX4_devices 41 = .ok (.istore_n 3, 1) := dk_62 (dk_at dksX4_devices_1 17 rfl rfl)
theorem dX4_devices_42 : decode cX4_devices 42 = .ok (.iconst 0, 1) := dk_3 (dk_at dksX4_devices_1 18 rfl rfl)
theorem dX4_devices_43 : decode cX4_devices 43 = .ok (.istore 4, 2) := dk_54 4 (dk_at dksX4_devices_1 19 rfl rfl)
theorem dX4_devices_45 : decode cX4_devices 45 = .ok (.iload_n 3, 1) := dk_29 (dk_at dksX4_devices_1 21 rfl rfl)
theorem dX4_devices_46 : decode cX4_devices 46 = .ok (.iconst (-1), 1) := dk_2 (dk_at dksX4_devices_1 22 rfl rfl)
theorem dX4_devices_47 : decode cX4_devices 47 = .ok (.if_icmp .eq 15, 3) := dk_159 0 15 (dk_at dksX4_devices_2 0 rfl rfl)
theorem dX4_devices_50 : decode cX4_devices 50 = .ok (.aload_n 0, 1) := dk_42 (dk_at dksX4_devices_2 3 rfl rfl)
theorem dX4_devices_51 : decode cX4_devices 51 = .ok (.iload_n 3, 1) := dk_29 (dk_at dksX4_devices_2 4 rfl rfl)
theorem dX4_devices_52 : decode cX4_devices 52 = .ok (.invokevirtual 91, 3) := dk_182 0 91 (dk_at dksX4_devices_2 5 rfl rfl)
theorem dX4_devices_55 : decode cX4_devices 55 = .ok (.istore 4, 2) := dk_54 4 (dk_at dksX4_devices_2 8 rfl rfl)
theorem dX4_devices_57 : decode cX4_devices 57 = .ok (.aload_n 0, 1) := dk_42 (dk_at dksX4_devices_2 10 rfl rfl)
theorem dX4_devices_58 : decode cX4_devices 58 = .ok (.iload_n 3, 1) := dk_29 (dk_at dksX4_devices_2 11 rfl rfl)
theorem dX4_devices_59 : decode cX4_devices 59 = .ok (.invokevirtual 72, 3) := dk_182 0 72 (dk_at dksX4_devices_2 12 rfl rfl)
theorem dX4_devices_62 : decode cX4_devices 62 = .ok (.aload_n 0, 1) := dk_42 (dk_at dksX4_devices_2 15 rfl rfl)
theorem dX4_devices_63 : decode cX4_devices 63 = .ok (.getfield 7, 3) := dk_180 0 7 (dk_at dksX4_devices_2 16 rfl rfl)
theorem dX4_devices_66 : decode cX4_devices 66 = .ok (.iconst 5, 1) := dk_8 (dk_at dksX4_devices_2 19 rfl rfl)
theorem dX4_devices_67 : decode cX4_devices 67 = .ok (.iload_n 1, 1) := dk_27 (dk_at dksX4_devices_2 20 rfl rfl)
theorem dX4_devices_68 : decode cX4_devices 68 = .ok (.iadd, 1) := dk_96 (dk_at dksX4_devices_2 21 rfl rfl)
theorem dX4_devices_69 : decode cX4_devices 69 = .ok (.iload_n 2, 1) := dk_28 (dk_at dksX4_devices_2 22 rfl rfl)
theorem dX4_devices_70 : decode cX4_devices 70 = .ok (.iastore, 1) := dk_79 (dk_at dksX4_devices_2 23 rfl rfl)
theorem dX4_devices_71 : decode cX4_devices 71 = .ok (.aload_n 0, 1) := dk_42 (dk_at dksX4_devices_3 0 rfl rfl)
theorem dX4_devices_72 : decode cX4_devices 72 = .ok (.getfield 7, 3) := dk_180 0 7 (dk_at dksX4_devices_3 1 rfl rfl)
theorem dX4_devices_75 : decode cX4_devices 75 = .ok (.sipush 293, 3) := dk_17 1 37 (dk_at dksX4_devices_3 4 rfl rfl)
theorem dX4_devices_78 : decode cX4_devices 78 = .ok (.iload_n 1, 1) := dk_27 (dk_at dksX4_devices_3 7 rfl rfl)
theorem dX4_devices_79 : decode cX4_devices 79 = .ok (.iadd, 1) := dk_96 (dk_at dksX4_devices_3 8 rfl rfl)
theorem dX4_devices_80 : decode cX4_devices 80 = .ok (.iload_n 2, 1) := dk_28 (dk_at dksX4_devices_3 9 rfl rfl)
theorem dX4_devices_81 : decode cX4_devices 81 = .ok (.iastore, 1) := dk_79 (dk_at dksX4_devices_3 10 rfl rfl)
theorem dX4_devices_82 : decode cX4_devices 82 = .ok (.aload_n 0, 1) := dk_42 (dk_at dksX4_devices_3 11 rfl rfl)
theorem dX4_devices_83 : decode cX4_devices 83 = .ok (.getfield 7, 3) := dk_180 0 7 (dk_at dksX4_devices_3 12 rfl rfl)
theorem dX4_devices_86 : decode cX4_devices 86 = .ok (.sipush 292, 3) := dk_17 1 36 (dk_at dksX4_devices_3 15 rfl rfl)
theorem dX4_devices_89 : decode cX4_devices 89 = .ok (.dup2, 1) := dk_92 (dk_at dksX4_devices_3 18 rfl rfl)
theorem dX4_devices_90 : decode cX4_devices 90 = .ok (.iaload, 1) := dk_46 (dk_at dksX4_devices_3 19 rfl rfl)
theorem dX4_devices_91 : decode cX4_devices 91 = .ok (.iconst 1, 1) := dk_4 (dk_at dksX4_devices_3 20 rfl rfl)
theorem dX4_devices_92 : decode cX4_devices 92 = .ok (.iadd, 1) := dk_96 (dk_at dksX4_devices_3 21 rfl rfl)
theorem dX4_devices_93 : decode cX4_devices 93 = .ok (.iastore, 1) := dk_79 (dk_at dksX4_devices_3 22 rfl rfl)
theorem dX4_devices_94 : decode cX4_devices 94 = .ok (.aload_n 0, 1) := dk_42 (dk_at dksX4_devices_3 23 rfl rfl)
theorem dX4_devices_95 : decode cX4_devices 95 = .ok (.iload 4, 2) := dk_21 4 (dk_at dksX4_devices_4 0 rfl rfl)
theorem dX4_devices_97 : decode cX4_devices 97 = .ok (.invokevirtual 119, 3) := dk_182 0 119 (dk_at dksX4_devices_4 2 rfl rfl)
theorem dX4_devices_100 : decode cX4_devices 100 = .ok (.ireturn, 1) := dk_172 (dk_at dksX4_devices_4 5 rfl rfl)
abbrev cX4_pass : ByteArray := prog_15_method_34_code
def yX4_pass : MethodName := ⟨RX4, "pass", "(I)I"⟩
def dkwX4_pass_0 : List UInt8 := [42, 182, 0, 122, 42, 42, 27, 182, 0, 137, 182, 0, 128, 172]
abbrev dktX4_pass_0 : List UInt8 := dkwX4_pass_0 ++ []
theorem dksX4_pass_0 : cX4_pass.data.toList.drop 0 = dktX4_pass_0 := by decide +kernel
theorem dX4_pass_0 : decode cX4_pass 0 = .ok (.aload_n 0, 1) := dk_42 (dk_at dksX4_pass_0 0 rfl rfl)
theorem dX4_pass_1 : decode cX4_pass 1 = .ok (.invokevirtual 122, 3) := dk_182 0 122 (dk_at dksX4_pass_0 1 rfl rfl)
theorem dX4_pass_4 : decode cX4_pass 4 = .ok (.aload_n 0, 1) := dk_42 (dk_at dksX4_pass_0 4 rfl rfl)
theorem dX4_pass_5 : decode cX4_pass 5 = .ok (.aload_n 0, 1) := dk_42 (dk_at dksX4_pass_0 5 rfl rfl)
theorem dX4_pass_6 : decode cX4_pass 6 = .ok (.iload_n 1, 1) := dk_27 (dk_at dksX4_pass_0 6 rfl rfl)
theorem dX4_pass_7 : decode cX4_pass 7 = .ok (.invokevirtual 137, 3) := dk_182 0 137 (dk_at dksX4_pass_0 7 rfl rfl)
theorem dX4_pass_10 : decode cX4_pass 10 = .ok (.invokevirtual 128, 3) := dk_182 0 128 (dk_at dksX4_pass_0 10 rfl rfl)
theorem dX4_pass_13 : decode cX4_pass 13 = .ok (.ireturn, 1) := dk_172 (dk_at dksX4_pass_0 13 rfl rfl)
abbrev cX4_passes : ByteArray := prog_15_method_33_code
def yX4_passes : MethodName := ⟨RX4, "passes", "(I)I"⟩
def dkwX4_passes_1 : List UInt8 := [27, 96, 79, 42, 42, 180, 0, 7, 3, 46, 182, 0, 119, 172]
abbrev dktX4_passes_1 : List UInt8 := dkwX4_passes_1 ++ []
def dkwX4_passes_0 : List UInt8 := [27, 4, 16, 99, 184, 0, 68, 154, 0, 10, 42, 4, 27, 182, 0, 103, 172, 42, 180, 0, 7, 3, 92, 46]
abbrev dktX4_passes_0 : List UInt8 := dkwX4_passes_0 ++ dktX4_passes_1
theorem dksX4_passes_0 : cX4_passes.data.toList.drop 0 = dktX4_passes_0 := by decide +kernel
theorem dksX4_passes_1 : cX4_passes.data.toList.drop 24 = dktX4_passes_1 := dk_seg dksX4_passes_0 24 rfl rfl
theorem dX4_passes_0 : decode cX4_passes 0 = .ok (.iload_n 1, 1) := dk_27 (dk_at dksX4_passes_0 0 rfl rfl)
theorem dX4_passes_1 : decode cX4_passes 1 = .ok (.iconst 1, 1) := dk_4 (dk_at dksX4_passes_0 1 rfl rfl)
theorem dX4_passes_2 : decode cX4_passes 2 = .ok (.bipush 99, 2) := dk_16 99 (dk_at dksX4_passes_0 2 rfl rfl)
theorem dX4_passes_4 : decode cX4_passes 4 = .ok (.invokestatic 68, 3) := dk_184 0 68 (dk_at dksX4_passes_0 4 rfl rfl)
theorem dX4_passes_7 : decode cX4_passes 7 = .ok (.ifCond .ne 10, 3) := dk_154 0 10 (dk_at dksX4_passes_0 7 rfl rfl)
theorem dX4_passes_10 : decode cX4_passes 10 = .ok (.aload_n 0, 1) := dk_42 (dk_at dksX4_passes_0 10 rfl rfl)
theorem dX4_passes_11 : decode cX4_passes 11 = .ok (.iconst 1, 1) := dk_4 (dk_at dksX4_passes_0 11 rfl rfl)
theorem dX4_passes_12 : decode cX4_passes 12 = .ok (.iload_n 1, 1) := dk_27 (dk_at dksX4_passes_0 12 rfl rfl)
theorem dX4_passes_13 : decode cX4_passes 13 = .ok (.invokevirtual 103, 3) := dk_182 0 103 (dk_at dksX4_passes_0 13 rfl rfl)
theorem dX4_passes_16 : decode cX4_passes 16 = .ok (.ireturn, 1) := dk_172 (dk_at dksX4_passes_0 16 rfl rfl)
theorem dX4_passes_17 : decode cX4_passes 17 = .ok (.aload_n 0, 1) := dk_42 (dk_at dksX4_passes_0 17 rfl rfl)
theorem dX4_passes_18 : decode cX4_passes 18 = .ok (.getfield 7, 3) := dk_180 0 7 (dk_at dksX4_passes_0 18 rfl rfl)
theorem dX4_passes_21 : decode cX4_passes 21 = .ok (.iconst 0, 1) := dk_3 (dk_at dksX4_passes_0 21 rfl rfl)
theorem dX4_passes_22 : decode cX4_passes 22 = .ok (.dup2, 1) := dk_92 (dk_at dksX4_passes_0 22 rfl rfl)
theorem dX4_passes_23 : decode cX4_passes 23 = .ok (.iaload, 1) := dk_46 (dk_at dksX4_passes_0 23 rfl rfl)
theorem dX4_passes_24 : decode cX4_passes 24 = .ok (.iload_n 1, 1) := dk_27 (dk_at dksX4_passes_1 0 rfl rfl)
theorem dX4_passes_25 : decode cX4_passes 25 = .ok (.iadd, 1) := dk_96 (dk_at dksX4_passes_1 1 rfl rfl)
theorem dX4_passes_26 : decode cX4_passes 26 = .ok (.iastore, 1) := dk_79 (dk_at dksX4_passes_1 2 rfl rfl)
theorem dX4_passes_27 : decode cX4_passes 27 = .ok (.aload_n 0, 1) := dk_42 (dk_at dksX4_passes_1 3 rfl rfl)
theorem dX4_passes_28 : decode cX4_passes 28 = .ok (.aload_n 0, 1) := dk_42 (dk_at dksX4_passes_1 4 rfl rfl)
theorem dX4_passes_29 : decode cX4_passes 29 = .ok (.getfield 7, 3) := dk_180 0 7 (dk_at dksX4_passes_1 5 rfl rfl)
theorem dX4_passes_32 : decode cX4_passes 32 = .ok (.iconst 0, 1) := dk_3 (dk_at dksX4_passes_1 8 rfl rfl)
theorem dX4_passes_33 : decode cX4_passes 33 = .ok (.iaload, 1) := dk_46 (dk_at dksX4_passes_1 9 rfl rfl)
theorem dX4_passes_34 : decode cX4_passes 34 = .ok (.invokevirtual 119, 3) := dk_182 0 119 (dk_at dksX4_passes_1 10 rfl rfl)
theorem dX4_passes_37 : decode cX4_passes 37 = .ok (.ireturn, 1) := dk_172 (dk_at dksX4_passes_1 13 rfl rfl)
abbrev cX4_pin : ByteArray := prog_15_method_37_code
def yX4_pin : MethodName := ⟨RX4, "pin", "(I)I"⟩
def dkwX4_pin_0 : List UInt8 := [42, 182, 0, 122, 42, 42, 27, 4, 182, 0, 146, 182, 0, 128, 172]
abbrev dktX4_pin_0 : List UInt8 := dkwX4_pin_0 ++ []
theorem dksX4_pin_0 : cX4_pin.data.toList.drop 0 = dktX4_pin_0 := by decide +kernel
theorem dX4_pin_0 : decode cX4_pin 0 = .ok (.aload_n 0, 1) := dk_42 (dk_at dksX4_pin_0 0 rfl rfl)
theorem dX4_pin_1 : decode cX4_pin 1 = .ok (.invokevirtual 122, 3) := dk_182 0 122 (dk_at dksX4_pin_0 1 rfl rfl)
theorem dX4_pin_4 : decode cX4_pin 4 = .ok (.aload_n 0, 1) := dk_42 (dk_at dksX4_pin_0 4 rfl rfl)
theorem dX4_pin_5 : decode cX4_pin 5 = .ok (.aload_n 0, 1) := dk_42 (dk_at dksX4_pin_0 5 rfl rfl)
theorem dX4_pin_6 : decode cX4_pin 6 = .ok (.iload_n 1, 1) := dk_27 (dk_at dksX4_pin_0 6 rfl rfl)
theorem dX4_pin_7 : decode cX4_pin 7 = .ok (.iconst 1, 1) := dk_4 (dk_at dksX4_pin_0 7 rfl rfl)
theorem dX4_pin_8 : decode cX4_pin 8 = .ok (.invokevirtual 146, 3) := dk_182 0 146 (dk_at dksX4_pin_0 8 rfl rfl)
theorem dX4_pin_11 : decode cX4_pin 11 = .ok (.invokevirtual 128, 3) := dk_182 0 128 (dk_at dksX4_pin_0 11 rfl rfl)
theorem dX4_pin_14 : decode cX4_pin 14 = .ok (.ireturn, 1) := dk_172 (dk_at dksX4_pin_0 14 rfl rfl)
abbrev cX4_pins : ByteArray := prog_15_method_36_code
def yX4_pins : MethodName := ⟨RX4, "pins", "(II)I"⟩
def dkwX4_pins_3 : List UInt8 := [96, 28, 79, 42, 42, 29, 7, 108, 182, 0, 143, 182, 0, 119, 172]
abbrev dktX4_pins_3 : List UInt8 := dkwX4_pins_3 ++ []
def dkwX4_pins_2 : List UInt8 := [28, 4, 160, 0, 7, 7, 167, 0, 4, 8, 29, 7, 112, 182, 0, 103, 172, 42, 180, 0, 7, 16, 105, 29]
abbrev dktX4_pins_2 : List UInt8 := dkwX4_pins_2 ++ dktX4_pins_3
def dkwX4_pins_1 : List UInt8 := [160, 0, 10, 42, 6, 27, 182, 0, 103, 172, 42, 180, 0, 7, 16, 105, 29, 96, 46, 28, 160, 0, 21, 42]
abbrev dktX4_pins_1 : List UInt8 := dkwX4_pins_1 ++ dktX4_pins_2
def dkwX4_pins_0 : List UInt8 := [27, 184, 0, 140, 154, 0, 10, 42, 4, 27, 182, 0, 103, 172, 42, 27, 182, 0, 97, 62, 29, 2]
abbrev dktX4_pins_0 : List UInt8 := dkwX4_pins_0 ++ dktX4_pins_1
theorem dksX4_pins_0 : cX4_pins.data.toList.drop 0 = dktX4_pins_0 := by decide +kernel
theorem dksX4_pins_1 : cX4_pins.data.toList.drop 22 = dktX4_pins_1 := dk_seg dksX4_pins_0 22 rfl rfl
theorem dksX4_pins_2 : cX4_pins.data.toList.drop 46 = dktX4_pins_2 := dk_seg dksX4_pins_1 24 rfl rfl
theorem dksX4_pins_3 : cX4_pins.data.toList.drop 70 = dktX4_pins_3 := dk_seg dksX4_pins_2 24 rfl rfl
theorem dX4_pins_0 : decode cX4_pins 0 = .ok (.iload_n 1, 1) := dk_27 (dk_at dksX4_pins_0 0 rfl rfl)
theorem dX4_pins_1 : decode cX4_pins 1 = .ok (.invokestatic 140, 3) := dk_184 0 140 (dk_at dksX4_pins_0 1 rfl rfl)
theorem dX4_pins_4 : decode cX4_pins 4 = .ok (.ifCond .ne 10, 3) := dk_154 0 10 (dk_at dksX4_pins_0 4 rfl rfl)
theorem dX4_pins_7 : decode cX4_pins 7 = .ok (.aload_n 0, 1) := dk_42 (dk_at dksX4_pins_0 7 rfl rfl)
theorem dX4_pins_8 : decode cX4_pins 8 = .ok (.iconst 1, 1) := dk_4 (dk_at dksX4_pins_0 8 rfl rfl)
theorem dX4_pins_9 : decode cX4_pins 9 = .ok (.iload_n 1, 1) := dk_27 (dk_at dksX4_pins_0 9 rfl rfl)
theorem dX4_pins_10 : decode cX4_pins 10 = .ok (.invokevirtual 103, 3) := dk_182 0 103 (dk_at dksX4_pins_0 10 rfl rfl)
theorem dX4_pins_13 : decode cX4_pins 13 = .ok (.ireturn, 1) := dk_172 (dk_at dksX4_pins_0 13 rfl rfl)
theorem dX4_pins_14 : decode cX4_pins 14 = .ok (.aload_n 0, 1) := dk_42 (dk_at dksX4_pins_0 14 rfl rfl)
theorem dX4_pins_15 : decode cX4_pins 15 = .ok (.iload_n 1, 1) := dk_27 (dk_at dksX4_pins_0 15 rfl rfl)
theorem dX4_pins_16 : decode cX4_pins 16 = .ok (.invokevirtual 97, 3) := dk_182 0 97 (dk_at dksX4_pins_0 16 rfl rfl)
theorem dX4_pins_19 : decode cX4_pins 19 = .ok (.istore_n 3, 1) := dk_62 (dk_at dksX4_pins_0 19 rfl rfl)
theorem dX4_pins_20 : decode cX4_pins 20 = .ok (.iload_n 3, 1) := dk_29 (dk_at dksX4_pins_0 20 rfl rfl)
theorem dX4_pins_21 : decode cX4_pins 21 = .ok (.iconst (-1), 1) := dk_2 (dk_at dksX4_pins_0 21 rfl rfl)
theorem dX4_pins_22 : decode cX4_pins 22 = .ok (.if_icmp .ne 10, 3) := dk_160 0 10 (dk_at dksX4_pins_1 0 rfl rfl)
theorem dX4_pins_25 : decode cX4_pins 25 = .ok (.aload_n 0, 1) := dk_42 (dk_at dksX4_pins_1 3 rfl rfl)
theorem dX4_pins_26 : decode cX4_pins 26 = .ok (.iconst 3, 1) := dk_6 (dk_at dksX4_pins_1 4 rfl rfl)
theorem dX4_pins_27 : decode cX4_pins 27 = .ok (.iload_n 1, 1) := dk_27 (dk_at dksX4_pins_1 5 rfl rfl)
theorem dX4_pins_28 : decode cX4_pins 28 = .ok (.invokevirtual 103, 3) := dk_182 0 103 (dk_at dksX4_pins_1 6 rfl rfl)
theorem dX4_pins_31 : decode cX4_pins 31 = .ok (.ireturn, 1) := dk_172 (dk_at dksX4_pins_1 9 rfl rfl)
theorem dX4_pins_32 : decode cX4_pins 32 = .ok (.aload_n 0, 1) := dk_42 (dk_at dksX4_pins_1 10 rfl rfl)
theorem dX4_pins_33 : decode cX4_pins 33 = .ok (.getfield 7, 3) := dk_180 0 7 (dk_at dksX4_pins_1 11 rfl rfl)
theorem dX4_pins_36 : decode cX4_pins 36 = .ok (.bipush 105, 2) := dk_16 105 (dk_at dksX4_pins_1 14 rfl rfl)
theorem dX4_pins_38 : decode cX4_pins 38 = .ok (.iload_n 3, 1) := dk_29 (dk_at dksX4_pins_1 16 rfl rfl)
theorem dX4_pins_39 : decode cX4_pins 39 = .ok (.iadd, 1) := dk_96 (dk_at dksX4_pins_1 17 rfl rfl)
theorem dX4_pins_40 : decode cX4_pins 40 = .ok (.iaload, 1) := dk_46 (dk_at dksX4_pins_1 18 rfl rfl)
theorem dX4_pins_41 : decode cX4_pins 41 = .ok (.iload_n 2, 1) := dk_28 (dk_at dksX4_pins_1 19 rfl rfl)
theorem dX4_pins_42 : decode cX4_pins 42 = .ok (.if_icmp .ne 21, 3) := dk_160 0 21 (dk_at dksX4_pins_1 20 rfl rfl)
theorem dX4_pins_45 : decode cX4_pins 45 = .ok (.aload_n 0, 1) := dk_42 (dk_at dksX4_pins_1 23 rfl rfl)
theorem dX4_pins_46 : decode cX4_pins 46 = .ok (.iload_n 2, 1) := dk_28 (dk_at dksX4_pins_2 0 rfl rfl)
theorem dX4_pins_47 : decode cX4_pins 47 = .ok (.iconst 1, 1) := dk_4 (dk_at dksX4_pins_2 1 rfl rfl)
theorem dX4_pins_48 : decode cX4_pins 48 = .ok (.if_icmp .ne 7, 3) := dk_160 0 7 (dk_at dksX4_pins_2 2 rfl rfl)
theorem dX4_pins_51 : decode cX4_pins 51 = .ok (.iconst 4, 1) := dk_7 (dk_at dksX4_pins_2 5 rfl rfl)
theorem dX4_pins_52 : decode cX4_pins 52 = .ok (.goto 4, 3) := dk_167 0 4 (dk_at dksX4_pins_2 6 rfl rfl)
theorem dX4_pins_55 : decode cX4_pins 55 = .ok (.iconst 5, 1) := dk_8 (dk_at dksX4_pins_2 9 rfl rfl)
theorem dX4_pins_56 : decode cX4_pins 56 = .ok (.iload_n 3, 1) := dk_29 (dk_at dksX4_pins_2 10 rfl rfl)
theorem dX4_pins_57 : decode cX4_pins 57 = .ok (.iconst 4, 1) := dk_7 (dk_at dksX4_pins_2 11 rfl rfl)
theorem dX4_pins_58 : decode cX4_pins 58 = .ok (.irem, 1) := dk_112 (dk_at dksX4_pins_2 12 rfl rfl)
theorem dX4_pins_59 : decode cX4_pins 59 = .ok (.invokevirtual 103, 3) := dk_182 0 103 (dk_at dksX4_pins_2 13 rfl rfl)
theorem dX4_pins_62 : decode cX4_pins 62 = .ok (.ireturn, 1) := dk_172 (dk_at dksX4_pins_2 16 rfl rfl)
theorem dX4_pins_63 : decode cX4_pins 63 = .ok (.aload_n 0, 1) := dk_42 (dk_at dksX4_pins_2 17 rfl rfl)
theorem dX4_pins_64 : decode cX4_pins 64 = .ok (.getfield 7, 3) := dk_180 0 7 (dk_at dksX4_pins_2 18 rfl rfl)
theorem dX4_pins_67 : decode cX4_pins 67 = .ok (.bipush 105, 2) := dk_16 105 (dk_at dksX4_pins_2 21 rfl rfl)
theorem dX4_pins_69 : decode cX4_pins 69 = .ok (.iload_n 3, 1) := dk_29 (dk_at dksX4_pins_2 23 rfl rfl)
theorem dX4_pins_70 : decode cX4_pins 70 = .ok (.iadd, 1) := dk_96 (dk_at dksX4_pins_3 0 rfl rfl)
theorem dX4_pins_71 : decode cX4_pins 71 = .ok (.iload_n 2, 1) := dk_28 (dk_at dksX4_pins_3 1 rfl rfl)
theorem dX4_pins_72 : decode cX4_pins 72 = .ok (.iastore, 1) := dk_79 (dk_at dksX4_pins_3 2 rfl rfl)
theorem dX4_pins_73 : decode cX4_pins 73 = .ok (.aload_n 0, 1) := dk_42 (dk_at dksX4_pins_3 3 rfl rfl)
theorem dX4_pins_74 : decode cX4_pins 74 = .ok (.aload_n 0, 1) := dk_42 (dk_at dksX4_pins_3 4 rfl rfl)
theorem dX4_pins_75 : decode cX4_pins 75 = .ok (.iload_n 3, 1) := dk_29 (dk_at dksX4_pins_3 5 rfl rfl)
theorem dX4_pins_76 : decode cX4_pins 76 = .ok (.iconst 4, 1) := dk_7 (dk_at dksX4_pins_3 6 rfl rfl)
theorem dX4_pins_77 : decode cX4_pins 77 = .ok (.idiv, 1) := dk_108 (dk_at dksX4_pins_3 7 rfl rfl)
theorem dX4_pins_78 : decode cX4_pins 78 = .ok (.invokevirtual 143, 3) := dk_182 0 143 (dk_at dksX4_pins_3 8 rfl rfl)
theorem dX4_pins_81 : decode cX4_pins 81 = .ok (.invokevirtual 119, 3) := dk_182 0 119 (dk_at dksX4_pins_3 11 rfl rfl)
theorem dX4_pins_84 : decode cX4_pins 84 = .ok (.ireturn, 1) := dk_172 (dk_at dksX4_pins_3 14 rfl rfl)
abbrev cX4_isBlock : ByteArray := prog_15_method_12_code
def yX4_isBlock : MethodName := ⟨RX4, "isBlock", "(I)Z"⟩
def dkwX4_isBlock_0 : List UInt8 := [26, 3, 16, 15, 184, 0, 68, 172]
abbrev dktX4_isBlock_0 : List UInt8 := dkwX4_isBlock_0 ++ []
theorem dksX4_isBlock_0 : cX4_isBlock.data.toList.drop 0 = dktX4_isBlock_0 := by decide +kernel
theorem dX4_isBlock_0 : decode cX4_isBlock 0 = .ok (.iload_n 0, 1) := dk_26 (dk_at dksX4_isBlock_0 0 rfl rfl)
theorem dX4_isBlock_1 : decode cX4_isBlock 1 = .ok (.iconst 0, 1) := dk_3 (dk_at dksX4_isBlock_0 1 rfl rfl)
theorem dX4_isBlock_2 : decode cX4_isBlock 2 = .ok (.bipush 15, 2) := dk_16 15 (dk_at dksX4_isBlock_0 2 rfl rfl)
theorem dX4_isBlock_4 : decode cX4_isBlock 4 = .ok (.invokestatic 68, 3) := dk_184 0 68 (dk_at dksX4_isBlock_0 4 rfl rfl)
theorem dX4_isBlock_7 : decode cX4_isBlock 7 = .ok (.ireturn, 1) := dk_172 (dk_at dksX4_isBlock_0 7 rfl rfl)
abbrev cX4_pinnedIn : ByteArray := prog_15_method_35_code
def yX4_pinnedIn : MethodName := ⟨RX4, "pinnedIn", "(I)I"⟩
def dkwX4_pinnedIn_1 : List UInt8 := [61, 132, 3, 1, 167, 255, 232, 28, 172]
abbrev dktX4_pinnedIn_1 : List UInt8 := dkwX4_pinnedIn_1 ++ []
def dkwX4_pinnedIn_0 : List UInt8 := [3, 61, 3, 62, 29, 7, 162, 0, 25, 28, 42, 180, 0, 7, 16, 105, 7, 27, 104, 96, 29, 96, 46, 96]
abbrev dktX4_pinnedIn_0 : List UInt8 := dkwX4_pinnedIn_0 ++ dktX4_pinnedIn_1
theorem dksX4_pinnedIn_0 : cX4_pinnedIn.data.toList.drop 0 = dktX4_pinnedIn_0 := by decide +kernel
theorem dksX4_pinnedIn_1 : cX4_pinnedIn.data.toList.drop 24 = dktX4_pinnedIn_1 := dk_seg dksX4_pinnedIn_0 24 rfl rfl
theorem dX4_pinnedIn_0 : decode cX4_pinnedIn 0 = .ok (.iconst 0, 1) := dk_3 (dk_at dksX4_pinnedIn_0 0 rfl rfl)
theorem dX4_pinnedIn_1 : decode cX4_pinnedIn 1 = .ok (.istore_n 2, 1) := dk_61 (dk_at dksX4_pinnedIn_0 1 rfl rfl)
theorem dX4_pinnedIn_2 : decode cX4_pinnedIn 2 = .ok (.iconst 0, 1) := dk_3 (dk_at dksX4_pinnedIn_0 2 rfl rfl)
theorem dX4_pinnedIn_3 : decode cX4_pinnedIn 3 = .ok (.istore_n 3, 1) := dk_62 (dk_at dksX4_pinnedIn_0 3 rfl rfl)
theorem dX4_pinnedIn_4 : decode cX4_pinnedIn 4 = .ok (.iload_n 3, 1) := dk_29 (dk_at dksX4_pinnedIn_0 4 rfl rfl)
theorem dX4_pinnedIn_5 : decode cX4_pinnedIn 5 = .ok (.iconst 4, 1) := dk_7 (dk_at dksX4_pinnedIn_0 5 rfl rfl)
theorem dX4_pinnedIn_6 : decode cX4_pinnedIn 6 = .ok (.if_icmp .ge 25, 3) := dk_162 0 25 (dk_at dksX4_pinnedIn_0 6 rfl rfl)
theorem dX4_pinnedIn_9 : decode cX4_pinnedIn 9 = .ok (.iload_n 2, 1) := dk_28 (dk_at dksX4_pinnedIn_0 9 rfl rfl)
theorem dX4_pinnedIn_10 : decode cX4_pinnedIn 10 = .ok (.aload_n 0, 1) := dk_42 (dk_at dksX4_pinnedIn_0 10 rfl rfl)
theorem dX4_pinnedIn_11 : decode cX4_pinnedIn 11 = .ok (.getfield 7, 3) := dk_180 0 7 (dk_at dksX4_pinnedIn_0 11 rfl rfl)
theorem dX4_pinnedIn_14 : decode cX4_pinnedIn 14 = .ok (.bipush 105, 2) := dk_16 105 (dk_at dksX4_pinnedIn_0 14 rfl rfl)
theorem dX4_pinnedIn_16 : decode cX4_pinnedIn 16 = .ok (.iconst 4, 1) := dk_7 (dk_at dksX4_pinnedIn_0 16 rfl rfl)
theorem dX4_pinnedIn_17 : decode cX4_pinnedIn 17 = .ok (.iload_n 1, 1) := dk_27 (dk_at dksX4_pinnedIn_0 17 rfl rfl)
theorem dX4_pinnedIn_18 : decode cX4_pinnedIn 18 = .ok (.imul, 1) := dk_104 (dk_at dksX4_pinnedIn_0 18 rfl rfl)
theorem dX4_pinnedIn_19 : decode cX4_pinnedIn 19 = .ok (.iadd, 1) := dk_96 (dk_at dksX4_pinnedIn_0 19 rfl rfl)
theorem dX4_pinnedIn_20 : decode cX4_pinnedIn 20 = .ok (.iload_n 3, 1) := dk_29 (dk_at dksX4_pinnedIn_0 20 rfl rfl)
theorem dX4_pinnedIn_21 : decode cX4_pinnedIn 21 = .ok (.iadd, 1) := dk_96 (dk_at dksX4_pinnedIn_0 21 rfl rfl)
theorem dX4_pinnedIn_22 : decode cX4_pinnedIn 22 = .ok (.iaload, 1) := dk_46 (dk_at dksX4_pinnedIn_0 22 rfl rfl)
theorem dX4_pinnedIn_23 : decode cX4_pinnedIn 23 = .ok (.iadd, 1) := dk_96 (dk_at dksX4_pinnedIn_0 23 rfl rfl)
theorem dX4_pinnedIn_24 : decode cX4_pinnedIn 24 = .ok (.istore_n 2, 1) := dk_61 (dk_at dksX4_pinnedIn_1 0 rfl rfl)
theorem dX4_pinnedIn_25 : decode cX4_pinnedIn 25 = .ok (.iinc 3 1, 3) := dk_132 3 1 (dk_at dksX4_pinnedIn_1 1 rfl rfl)
theorem dX4_pinnedIn_28 : decode cX4_pinnedIn 28 = .ok (.goto (-24), 3) := dk_167 255 232 (dk_at dksX4_pinnedIn_1 4 rfl rfl)
theorem dX4_pinnedIn_31 : decode cX4_pinnedIn 31 = .ok (.iload_n 2, 1) := dk_28 (dk_at dksX4_pinnedIn_1 7 rfl rfl)
theorem dX4_pinnedIn_32 : decode cX4_pinnedIn 32 = .ok (.ireturn, 1) := dk_172 (dk_at dksX4_pinnedIn_1 8 rfl rfl)
abbrev cX4_free : ByteArray := prog_15_method_38_code
def yX4_free : MethodName := ⟨RX4, "free", "(I)I"⟩
def dkwX4_free_0 : List UInt8 := [42, 182, 0, 122, 42, 42, 27, 3, 182, 0, 146, 182, 0, 128, 172]
abbrev dktX4_free_0 : List UInt8 := dkwX4_free_0 ++ []
theorem dksX4_free_0 : cX4_free.data.toList.drop 0 = dktX4_free_0 := by decide +kernel
theorem dX4_free_0 : decode cX4_free 0 = .ok (.aload_n 0, 1) := dk_42 (dk_at dksX4_free_0 0 rfl rfl)
theorem dX4_free_1 : decode cX4_free 1 = .ok (.invokevirtual 122, 3) := dk_182 0 122 (dk_at dksX4_free_0 1 rfl rfl)
theorem dX4_free_4 : decode cX4_free 4 = .ok (.aload_n 0, 1) := dk_42 (dk_at dksX4_free_0 4 rfl rfl)
theorem dX4_free_5 : decode cX4_free 5 = .ok (.aload_n 0, 1) := dk_42 (dk_at dksX4_free_0 5 rfl rfl)
theorem dX4_free_6 : decode cX4_free 6 = .ok (.iload_n 1, 1) := dk_27 (dk_at dksX4_free_0 6 rfl rfl)
theorem dX4_free_7 : decode cX4_free 7 = .ok (.iconst 0, 1) := dk_3 (dk_at dksX4_free_0 7 rfl rfl)
theorem dX4_free_8 : decode cX4_free 8 = .ok (.invokevirtual 146, 3) := dk_182 0 146 (dk_at dksX4_free_0 8 rfl rfl)
theorem dX4_free_11 : decode cX4_free 11 = .ok (.invokevirtual 128, 3) := dk_182 0 128 (dk_at dksX4_free_0 11 rfl rfl)
theorem dX4_free_14 : decode cX4_free 14 = .ok (.ireturn, 1) := dk_172 (dk_at dksX4_free_0 14 rfl rfl)
abbrev cX4_flush : ByteArray := prog_15_method_41_code
def yX4_flush : MethodName := ⟨RX4, "flush", "()I"⟩
def dkwX4_flush_0 : List UInt8 := [42, 182, 0, 122, 42, 42, 182, 0, 156, 182, 0, 128, 172]
abbrev dktX4_flush_0 : List UInt8 := dkwX4_flush_0 ++ []
theorem dksX4_flush_0 : cX4_flush.data.toList.drop 0 = dktX4_flush_0 := by decide +kernel
theorem dX4_flush_0 : decode cX4_flush 0 = .ok (.aload_n 0, 1) := dk_42 (dk_at dksX4_flush_0 0 rfl rfl)
theorem dX4_flush_1 : decode cX4_flush 1 = .ok (.invokevirtual 122, 3) := dk_182 0 122 (dk_at dksX4_flush_0 1 rfl rfl)
theorem dX4_flush_4 : decode cX4_flush 4 = .ok (.aload_n 0, 1) := dk_42 (dk_at dksX4_flush_0 4 rfl rfl)
theorem dX4_flush_5 : decode cX4_flush 5 = .ok (.aload_n 0, 1) := dk_42 (dk_at dksX4_flush_0 5 rfl rfl)
theorem dX4_flush_6 : decode cX4_flush 6 = .ok (.invokevirtual 156, 3) := dk_182 0 156 (dk_at dksX4_flush_0 6 rfl rfl)
theorem dX4_flush_9 : decode cX4_flush 9 = .ok (.invokevirtual 128, 3) := dk_182 0 128 (dk_at dksX4_flush_0 9 rfl rfl)
theorem dX4_flush_12 : decode cX4_flush 12 = .ok (.ireturn, 1) := dk_172 (dk_at dksX4_flush_0 12 rfl rfl)
abbrev cX4_flushes : ByteArray := prog_15_method_40_code
def yX4_flushes : MethodName := ⟨RX4, "flushes", "()I"⟩
def dkwX4_flushes_1 : List UInt8 := [182, 0, 119, 172]
abbrev dktX4_flushes_1 : List UInt8 := dkwX4_flushes_1 ++ []
def dkwX4_flushes_0 : List UInt8 := [42, 182, 0, 149, 154, 0, 13, 42, 16, 6, 3, 182, 0, 103, 167, 0, 11, 42, 42, 182, 0, 153]
abbrev dktX4_flushes_0 : List UInt8 := dkwX4_flushes_0 ++ dktX4_flushes_1
theorem dksX4_flushes_0 : cX4_flushes.data.toList.drop 0 = dktX4_flushes_0 := by decide +kernel
theorem dksX4_flushes_1 : cX4_flushes.data.toList.drop 22 = dktX4_flushes_1 := dk_seg dksX4_flushes_0 22 rfl rfl
theorem dX4_flushes_0 : decode cX4_flushes 0 = .ok (.aload_n 0, 1) := dk_42 (dk_at dksX4_flushes_0 0 rfl rfl)
theorem dX4_flushes_1 : decode cX4_flushes 1 = .ok (.invokevirtual 149, 3) := dk_182 0 149 (dk_at dksX4_flushes_0 1 rfl rfl)
theorem dX4_flushes_4 : decode cX4_flushes 4 = .ok (.ifCond .ne 13, 3) := dk_154 0 13 (dk_at dksX4_flushes_0 4 rfl rfl)
theorem dX4_flushes_7 : decode cX4_flushes 7 = .ok (.aload_n 0, 1) := dk_42 (dk_at dksX4_flushes_0 7 rfl rfl)
theorem dX4_flushes_8 : decode cX4_flushes 8 = .ok (.bipush 6, 2) := dk_16 6 (dk_at dksX4_flushes_0 8 rfl rfl)
theorem dX4_flushes_10 : decode cX4_flushes 10 = .ok (.iconst 0, 1) := dk_3 (dk_at dksX4_flushes_0 10 rfl rfl)
theorem dX4_flushes_11 : decode cX4_flushes 11 = .ok (.invokevirtual 103, 3) := dk_182 0 103 (dk_at dksX4_flushes_0 11 rfl rfl)
theorem dX4_flushes_14 : decode cX4_flushes 14 = .ok (.goto 11, 3) := dk_167 0 11 (dk_at dksX4_flushes_0 14 rfl rfl)
theorem dX4_flushes_17 : decode cX4_flushes 17 = .ok (.aload_n 0, 1) := dk_42 (dk_at dksX4_flushes_0 17 rfl rfl)
theorem dX4_flushes_18 : decode cX4_flushes 18 = .ok (.aload_n 0, 1) := dk_42 (dk_at dksX4_flushes_0 18 rfl rfl)
theorem dX4_flushes_19 : decode cX4_flushes 19 = .ok (.invokevirtual 153, 3) := dk_182 0 153 (dk_at dksX4_flushes_0 19 rfl rfl)
theorem dX4_flushes_22 : decode cX4_flushes 22 = .ok (.invokevirtual 119, 3) := dk_182 0 119 (dk_at dksX4_flushes_1 0 rfl rfl)
theorem dX4_flushes_25 : decode cX4_flushes 25 = .ok (.ireturn, 1) := dk_172 (dk_at dksX4_flushes_1 3 rfl rfl)
abbrev cX4_dirtyWords : ByteArray := prog_15_method_39_code
def yX4_dirtyWords : MethodName := ⟨RX4, "dirtyWords", "()I"⟩
def dkwX4_dirtyWords_1 : List UInt8 := [60, 132, 2, 1, 167, 255, 232, 27, 172]
abbrev dktX4_dirtyWords_1 : List UInt8 := dkwX4_dirtyWords_1 ++ []
def dkwX4_dirtyWords_0 : List UInt8 := [3, 60, 3, 61, 28, 16, 16, 162, 0, 24, 27, 42, 180, 0, 7, 16, 89, 28, 96, 46, 184, 0, 76, 96]
abbrev dktX4_dirtyWords_0 : List UInt8 := dkwX4_dirtyWords_0 ++ dktX4_dirtyWords_1
theorem dksX4_dirtyWords_0 : cX4_dirtyWords.data.toList.drop 0 = dktX4_dirtyWords_0 := by decide +kernel
theorem dksX4_dirtyWords_1 : cX4_dirtyWords.data.toList.drop 24 = dktX4_dirtyWords_1 := dk_seg dksX4_dirtyWords_0 24 rfl rfl
theorem dX4_dirtyWords_0 : decode cX4_dirtyWords 0 = .ok (.iconst 0, 1) := dk_3 (dk_at dksX4_dirtyWords_0 0 rfl rfl)
theorem dX4_dirtyWords_1 : decode cX4_dirtyWords 1 = .ok (.istore_n 1, 1) := dk_60 (dk_at dksX4_dirtyWords_0 1 rfl rfl)
theorem dX4_dirtyWords_2 : decode cX4_dirtyWords 2 = .ok (.iconst 0, 1) := dk_3 (dk_at dksX4_dirtyWords_0 2 rfl rfl)
theorem dX4_dirtyWords_3 : decode cX4_dirtyWords 3 = .ok (.istore_n 2, 1) := dk_61 (dk_at dksX4_dirtyWords_0 3 rfl rfl)
theorem dX4_dirtyWords_4 : decode cX4_dirtyWords 4 = .ok (.iload_n 2, 1) := dk_28 (dk_at dksX4_dirtyWords_0 4 rfl rfl)
theorem dX4_dirtyWords_5 : decode cX4_dirtyWords 5 = .ok (.bipush 16, 2) := dk_16 16 (dk_at dksX4_dirtyWords_0 5 rfl rfl)
theorem dX4_dirtyWords_7 : decode cX4_dirtyWords 7 = .ok (.if_icmp .ge 24, 3) := dk_162 0 24 (dk_at dksX4_dirtyWords_0 7 rfl rfl)
theorem dX4_dirtyWords_10 : decode cX4_dirtyWords 10 = .ok (.iload_n 1, 1) := dk_27 (dk_at dksX4_dirtyWords_0 10 rfl rfl)
theorem dX4_dirtyWords_11 : decode cX4_dirtyWords 11 = .ok (.aload_n 0, 1) := dk_42 (dk_at dksX4_dirtyWords_0 11 rfl rfl)
theorem dX4_dirtyWords_12 : decode cX4_dirtyWords 12 = .ok (.getfield 7, 3) := dk_180 0 7 (dk_at dksX4_dirtyWords_0 12 rfl rfl)
theorem dX4_dirtyWords_15 : decode cX4_dirtyWords 15 = .ok (.bipush 89, 2) := dk_16 89 (dk_at dksX4_dirtyWords_0 15 rfl rfl)
theorem dX4_dirtyWords_17 : decode cX4_dirtyWords 17 = .ok (.iload_n 2, 1) := dk_28 (dk_at dksX4_dirtyWords_0 17 rfl rfl)
theorem dX4_dirtyWords_18 : decode cX4_dirtyWords 18 = .ok (.iadd, 1) := dk_96 (dk_at dksX4_dirtyWords_0 18 rfl rfl)
theorem dX4_dirtyWords_19 : decode cX4_dirtyWords 19 = .ok (.iaload, 1) := dk_46 (dk_at dksX4_dirtyWords_0 19 rfl rfl)
theorem dX4_dirtyWords_20 : decode cX4_dirtyWords 20 = .ok (.invokestatic 76, 3) := dk_184 0 76 (dk_at dksX4_dirtyWords_0 20 rfl rfl)
theorem dX4_dirtyWords_23 : decode cX4_dirtyWords 23 = .ok (.iadd, 1) := dk_96 (dk_at dksX4_dirtyWords_0 23 rfl rfl)
theorem dX4_dirtyWords_24 : decode cX4_dirtyWords 24 = .ok (.istore_n 1, 1) := dk_60 (dk_at dksX4_dirtyWords_1 0 rfl rfl)
theorem dX4_dirtyWords_25 : decode cX4_dirtyWords 25 = .ok (.iinc 2 1, 3) := dk_132 2 1 (dk_at dksX4_dirtyWords_1 1 rfl rfl)
theorem dX4_dirtyWords_28 : decode cX4_dirtyWords 28 = .ok (.goto (-24), 3) := dk_167 255 232 (dk_at dksX4_dirtyWords_1 4 rfl rfl)
theorem dX4_dirtyWords_31 : decode cX4_dirtyWords 31 = .ok (.iload_n 1, 1) := dk_27 (dk_at dksX4_dirtyWords_1 7 rfl rfl)
theorem dX4_dirtyWords_32 : decode cX4_dirtyWords 32 = .ok (.ireturn, 1) := dk_172 (dk_at dksX4_dirtyWords_1 8 rfl rfl)
abbrev cX4_writesAllBack : ByteArray := prog_15_method_22_code
def yX4_writesAllBack : MethodName := ⟨RX4, "writesAllBack", "()I"⟩
def dkwX4_writesAllBack_2 : List UInt8 := [167, 255, 213, 27, 172]
abbrev dktX4_writesAllBack_2 : List UInt8 := dkwX4_writesAllBack_2 ++ []
def dkwX4_writesAllBack_1 : List UInt8 := [162, 0, 21, 27, 42, 7, 28, 104, 29, 96, 182, 0, 91, 96, 60, 132, 3, 1, 167, 255, 231, 132, 2, 1]
abbrev dktX4_writesAllBack_1 : List UInt8 := dkwX4_writesAllBack_1 ++ dktX4_writesAllBack_2
def dkwX4_writesAllBack_0 : List UInt8 := [3, 60, 3, 61, 28, 42, 180, 0, 7, 4, 46, 162, 0, 39, 3, 62, 29, 42, 180, 0, 7, 5, 46]
abbrev dktX4_writesAllBack_0 : List UInt8 := dkwX4_writesAllBack_0 ++ dktX4_writesAllBack_1
theorem dksX4_writesAllBack_0 : cX4_writesAllBack.data.toList.drop 0 = dktX4_writesAllBack_0 := by decide +kernel
theorem dksX4_writesAllBack_1 : cX4_writesAllBack.data.toList.drop 23 = dktX4_writesAllBack_1 := dk_seg dksX4_writesAllBack_0 23 rfl rfl
theorem dksX4_writesAllBack_2 : cX4_writesAllBack.data.toList.drop 47 = dktX4_writesAllBack_2 := dk_seg dksX4_writesAllBack_1 24 rfl rfl
theorem dX4_writesAllBack_0 : decode cX4_writesAllBack 0 = .ok (.iconst 0, 1) := dk_3 (dk_at dksX4_writesAllBack_0 0 rfl rfl)
theorem dX4_writesAllBack_1 : decode cX4_writesAllBack 1 = .ok (.istore_n 1, 1) := dk_60 (dk_at dksX4_writesAllBack_0 1 rfl rfl)
theorem dX4_writesAllBack_2 : decode cX4_writesAllBack 2 = .ok (.iconst 0, 1) := dk_3 (dk_at dksX4_writesAllBack_0 2 rfl rfl)
theorem dX4_writesAllBack_3 : decode cX4_writesAllBack 3 = .ok (.istore_n 2, 1) := dk_61 (dk_at dksX4_writesAllBack_0 3 rfl rfl)
theorem dX4_writesAllBack_4 : decode cX4_writesAllBack 4 = .ok (.iload_n 2, 1) := dk_28 (dk_at dksX4_writesAllBack_0 4 rfl rfl)
theorem dX4_writesAllBack_5 : decode cX4_writesAllBack 5 = .ok (.aload_n 0, 1) := dk_42 (dk_at dksX4_writesAllBack_0 5 rfl rfl)
theorem dX4_writesAllBack_6 : decode cX4_writesAllBack 6 = .ok (.getfield 7, 3) := dk_180 0 7 (dk_at dksX4_writesAllBack_0 6 rfl rfl)
theorem dX4_writesAllBack_9 : decode cX4_writesAllBack 9 = .ok (.iconst 1, 1) := dk_4 (dk_at dksX4_writesAllBack_0 9 rfl rfl)
theorem dX4_writesAllBack_10 : decode cX4_writesAllBack 10 = .ok (.iaload, 1) := dk_46 (dk_at dksX4_writesAllBack_0 10 rfl rfl)
theorem dX4_writesAllBack_11 : decode cX4_writesAllBack 11 = .ok (.if_icmp .ge 39, 3) := dk_162 0 39 (dk_at dksX4_writesAllBack_0 11 rfl rfl)
theorem dX4_writesAllBack_14 : decode cX4_writesAllBack 14 = .ok (.iconst 0, 1) := dk_3 (dk_at dksX4_writesAllBack_0 14 rfl rfl)
theorem dX4_writesAllBack_15 : decode cX4_writesAllBack 15 = .ok (.istore_n 3, 1) := dk_62 (dk_at dksX4_writesAllBack_0 15 rfl rfl)
theorem dX4_writesAllBack_16 : decode cX4_writesAllBack 16 = .ok (.iload_n 3, 1) := dk_29 (dk_at dksX4_writesAllBack_0 16 rfl rfl)
theorem dX4_writesAllBack_17 : decode cX4_writesAllBack 17 = .ok (.aload_n 0, 1) := dk_42 (dk_at dksX4_writesAllBack_0 17 rfl rfl)
theorem dX4_writesAllBack_18 : decode cX4_writesAllBack 18 = .ok (.getfield 7, 3) := dk_180 0 7 (dk_at dksX4_writesAllBack_0 18 rfl rfl)
theorem dX4_writesAllBack_21 : decode cX4_writesAllBack 21 = .ok (.iconst 2, 1) := dk_5 (dk_at dksX4_writesAllBack_0 21 rfl rfl)
theorem dX4_writesAllBack_22 : decode cX4_writesAllBack 22 = .ok (.iaload, 1) := dk_46 (dk_at dksX4_writesAllBack_0 22 rfl rfl)
theorem dX4_writesAllBack_23 : decode cX4_writesAllBack 23 = .ok (.if_icmp .ge 21, 3) := dk_162 0 21 (dk_at dksX4_writesAllBack_1 0 rfl rfl)
theorem dX4_writesAllBack_26 : decode cX4_writesAllBack 26 = .ok (.iload_n 1, 1) := dk_27 (dk_at dksX4_writesAllBack_1 3 rfl rfl)
theorem dX4_writesAllBack_27 : decode cX4_writesAllBack 27 = .ok (.aload_n 0, 1) := dk_42 (dk_at dksX4_writesAllBack_1 4 rfl rfl)
theorem dX4_writesAllBack_28 : decode cX4_writesAllBack 28 = .ok (.iconst 4, 1) := dk_7 (dk_at dksX4_writesAllBack_1 5 rfl rfl)
theorem dX4_writesAllBack_29 : decode cX4_writesAllBack 29 = .ok (.iload_n 2, 1) := dk_28 (dk_at dksX4_writesAllBack_1 6 rfl rfl)
theorem dX4_writesAllBack_30 : decode cX4_writesAllBack 30 = .ok (.imul, 1) := dk_104 (dk_at dksX4_writesAllBack_1 7 rfl rfl)
theorem dX4_writesAllBack_31 : decode cX4_writesAllBack 31 = .ok (.iload_n 3, 1) := dk_29 (dk_at dksX4_writesAllBack_1 8 rfl rfl)
theorem dX4_writesAllBack_32 : decode cX4_writesAllBack 32 = .ok (.iadd, 1) := dk_96 (dk_at dksX4_writesAllBack_1 9 rfl rfl)
theorem dX4_writesAllBack_33 : decode cX4_writesAllBack 33 = .ok (.invokevirtual 91, 3) := dk_182 0 91 (dk_at dksX4_writesAllBack_1 10 rfl rfl)
theorem dX4_writesAllBack_36 : decode cX4_writesAllBack 36 = .ok (.iadd, 1) := dk_96 (dk_at dksX4_writesAllBack_1 13 rfl rfl)
theorem dX4_writesAllBack_37 : decode cX4_writesAllBack 37 = .ok (.istore_n 1, 1) := dk_60 (dk_at dksX4_writesAllBack_1 14 rfl rfl)
theorem dX4_writesAllBack_38 : decode cX4_writesAllBack 38 = .ok (.iinc 3 1, 3) := dk_132 3 1 (dk_at dksX4_writesAllBack_1 15 rfl rfl)
theorem dX4_writesAllBack_41 : decode cX4_writesAllBack 41 = .ok (.goto (-25), 3) := dk_167 255 231 (dk_at dksX4_writesAllBack_1 18 rfl rfl)
theorem dX4_writesAllBack_44 : decode cX4_writesAllBack 44 = .ok (.iinc 2 1, 3) := dk_132 2 1 (dk_at dksX4_writesAllBack_1 21 rfl rfl)
theorem dX4_writesAllBack_47 : decode cX4_writesAllBack 47 = .ok (.goto (-43), 3) := dk_167 255 213 (dk_at dksX4_writesAllBack_2 0 rfl rfl)
theorem dX4_writesAllBack_50 : decode cX4_writesAllBack 50 = .ok (.iload_n 1, 1) := dk_27 (dk_at dksX4_writesAllBack_2 3 rfl rfl)
theorem dX4_writesAllBack_51 : decode cX4_writesAllBack 51 = .ok (.ireturn, 1) := dk_172 (dk_at dksX4_writesAllBack_2 4 rfl rfl)
abbrev cX4_shape : ByteArray := prog_15_method_42_code
def yX4_shape : MethodName := ⟨RX4, "shape", "(II)I"⟩
def dkwX4_shape_4 : List UInt8 := [17, 0, 235, 21, 4, 96, 3, 79, 132, 4, 1, 167, 255, 234, 42, 42, 29, 182, 0, 119, 182, 0, 128, 172]
abbrev dktX4_shape_4 : List UInt8 := dkwX4_shape_4 ++ []
def dkwX4_shape_3 : List UInt8 := [180, 0, 7, 17, 0, 234, 3, 79, 3, 54, 4, 21, 4, 16, 16, 162, 0, 21, 42, 180, 0, 7]
abbrev dktX4_shape_3 : List UInt8 := dkwX4_shape_3 ++ dktX4_shape_4
def dkwX4_shape_2 : List UInt8 := [180, 0, 7, 4, 27, 79, 42, 180, 0, 7, 5, 28, 79, 42, 180, 0, 7, 17, 0, 233, 3, 79, 42]
abbrev dktX4_shape_2 : List UInt8 := dkwX4_shape_2 ++ dktX4_shape_3
def dkwX4_shape_1 : List UInt8 := [154, 0, 10, 42, 4, 28, 182, 0, 103, 172, 42, 182, 0, 122, 42, 182, 0, 153, 62, 42, 182, 0, 39, 42]
abbrev dktX4_shape_1 : List UInt8 := dkwX4_shape_1 ++ dktX4_shape_2
def dkwX4_shape_0 : List UInt8 := [27, 4, 7, 184, 0, 68, 154, 0, 10, 42, 4, 27, 182, 0, 103, 172, 28, 4, 7, 184, 0, 68]
abbrev dktX4_shape_0 : List UInt8 := dkwX4_shape_0 ++ dktX4_shape_1
theorem dksX4_shape_0 : cX4_shape.data.toList.drop 0 = dktX4_shape_0 := by decide +kernel
theorem dksX4_shape_1 : cX4_shape.data.toList.drop 22 = dktX4_shape_1 := dk_seg dksX4_shape_0 22 rfl rfl
theorem dksX4_shape_2 : cX4_shape.data.toList.drop 46 = dktX4_shape_2 := dk_seg dksX4_shape_1 24 rfl rfl
theorem dksX4_shape_3 : cX4_shape.data.toList.drop 69 = dktX4_shape_3 := dk_seg dksX4_shape_2 23 rfl rfl
theorem dksX4_shape_4 : cX4_shape.data.toList.drop 91 = dktX4_shape_4 := dk_seg dksX4_shape_3 22 rfl rfl
theorem dX4_shape_0 : decode cX4_shape 0 = .ok (.iload_n 1, 1) := dk_27 (dk_at dksX4_shape_0 0 rfl rfl)
theorem dX4_shape_1 : decode cX4_shape 1 = .ok (.iconst 1, 1) := dk_4 (dk_at dksX4_shape_0 1 rfl rfl)
theorem dX4_shape_2 : decode cX4_shape 2 = .ok (.iconst 4, 1) := dk_7 (dk_at dksX4_shape_0 2 rfl rfl)
theorem dX4_shape_3 : decode cX4_shape 3 = .ok (.invokestatic 68, 3) := dk_184 0 68 (dk_at dksX4_shape_0 3 rfl rfl)
theorem dX4_shape_6 : decode cX4_shape 6 = .ok (.ifCond .ne 10, 3) := dk_154 0 10 (dk_at dksX4_shape_0 6 rfl rfl)
theorem dX4_shape_9 : decode cX4_shape 9 = .ok (.aload_n 0, 1) := dk_42 (dk_at dksX4_shape_0 9 rfl rfl)
theorem dX4_shape_10 : decode cX4_shape 10 = .ok (.iconst 1, 1) := dk_4 (dk_at dksX4_shape_0 10 rfl rfl)
theorem dX4_shape_11 : decode cX4_shape 11 = .ok (.iload_n 1, 1) := dk_27 (dk_at dksX4_shape_0 11 rfl rfl)
theorem dX4_shape_12 : decode cX4_shape 12 = .ok (.invokevirtual 103, 3) := dk_182 0 103 (dk_at dksX4_shape_0 12 rfl rfl)
theorem dX4_shape_15 : decode cX4_shape 15 = .ok (.ireturn, 1) := dk_172 (dk_at dksX4_shape_0 15 rfl rfl)
theorem dX4_shape_16 : decode cX4_shape 16 = .ok (.iload_n 2, 1) := dk_28 (dk_at dksX4_shape_0 16 rfl rfl)
theorem dX4_shape_17 : decode cX4_shape 17 = .ok (.iconst 1, 1) := dk_4 (dk_at dksX4_shape_0 17 rfl rfl)
theorem dX4_shape_18 : decode cX4_shape 18 = .ok (.iconst 4, 1) := dk_7 (dk_at dksX4_shape_0 18 rfl rfl)
theorem dX4_shape_19 : decode cX4_shape 19 = .ok (.invokestatic 68, 3) := dk_184 0 68 (dk_at dksX4_shape_0 19 rfl rfl)
theorem dX4_shape_22 : decode cX4_shape 22 = .ok (.ifCond .ne 10, 3) := dk_154 0 10 (dk_at dksX4_shape_1 0 rfl rfl)
theorem dX4_shape_25 : decode cX4_shape 25 = .ok (.aload_n 0, 1) := dk_42 (dk_at dksX4_shape_1 3 rfl rfl)
theorem dX4_shape_26 : decode cX4_shape 26 = .ok (.iconst 1, 1) := dk_4 (dk_at dksX4_shape_1 4 rfl rfl)
theorem dX4_shape_27 : decode cX4_shape 27 = .ok (.iload_n 2, 1) := dk_28 (dk_at dksX4_shape_1 5 rfl rfl)
theorem dX4_shape_28 : decode cX4_shape 28 = .ok (.invokevirtual 103, 3) := dk_182 0 103 (dk_at dksX4_shape_1 6 rfl rfl)
theorem dX4_shape_31 : decode cX4_shape 31 = .ok (.ireturn, 1) := dk_172 (dk_at dksX4_shape_1 9 rfl rfl)
theorem dX4_shape_32 : decode cX4_shape 32 = .ok (.aload_n 0, 1) := dk_42 (dk_at dksX4_shape_1 10 rfl rfl)
theorem dX4_shape_33 : decode cX4_shape 33 = .ok (.invokevirtual 122, 3) := dk_182 0 122 (dk_at dksX4_shape_1 11 rfl rfl)
theorem dX4_shape_36 : decode cX4_shape 36 = .ok (.aload_n 0, 1) := dk_42 (dk_at dksX4_shape_1 14 rfl rfl)
theorem dX4_shape_37 : decode cX4_shape 37 = .ok (.invokevirtual 153, 3) := dk_182 0 153 (dk_at dksX4_shape_1 15 rfl rfl)
theorem dX4_shape_40 : decode cX4_shape 40 = .ok (.istore_n 3, 1) := dk_62 (dk_at dksX4_shape_1 18 rfl rfl)
theorem dX4_shape_41 : decode cX4_shape 41 = .ok (.aload_n 0, 1) := dk_42 (dk_at dksX4_shape_1 19 rfl rfl)
theorem dX4_shape_42 : decode cX4_shape 42 = .ok (.invokevirtual 39, 3) := dk_182 0 39 (dk_at dksX4_shape_1 20 rfl rfl)
theorem dX4_shape_45 : decode cX4_shape 45 = .ok (.aload_n 0, 1) := dk_42 (dk_at dksX4_shape_1 23 rfl rfl)
theorem dX4_shape_46 : decode cX4_shape 46 = .ok (.getfield 7, 3) := dk_180 0 7 (dk_at dksX4_shape_2 0 rfl rfl)
theorem dX4_shape_49 : decode cX4_shape 49 = .ok (.iconst 1, 1) := dk_4 (dk_at dksX4_shape_2 3 rfl rfl)
theorem dX4_shape_50 : decode cX4_shape 50 = .ok (.iload_n 1, 1) := dk_27 (dk_at dksX4_shape_2 4 rfl rfl)
theorem dX4_shape_51 : decode cX4_shape 51 = .ok (.iastore, 1) := dk_79 (dk_at dksX4_shape_2 5 rfl rfl)
theorem dX4_shape_52 : decode cX4_shape 52 = .ok (.aload_n 0, 1) := dk_42 (dk_at dksX4_shape_2 6 rfl rfl)
theorem dX4_shape_53 : decode cX4_shape 53 = .ok (.getfield 7, 3) := dk_180 0 7 (dk_at dksX4_shape_2 7 rfl rfl)
theorem dX4_shape_56 : decode cX4_shape 56 = .ok (.iconst 2, 1) := dk_5 (dk_at dksX4_shape_2 10 rfl rfl)
theorem dX4_shape_57 : decode cX4_shape 57 = .ok (.iload_n 2, 1) := dk_28 (dk_at dksX4_shape_2 11 rfl rfl)
theorem dX4_shape_58 : decode cX4_shape 58 = .ok (.iastore, 1) := dk_79 (dk_at dksX4_shape_2 12 rfl rfl)
theorem dX4_shape_59 : decode cX4_shape 59 = .ok (.aload_n 0, 1) := dk_42 (dk_at dksX4_shape_2 13 rfl rfl)
theorem dX4_shape_60 : decode cX4_shape 60 = .ok (.getfield 7, 3) := dk_180 0 7 (dk_at dksX4_shape_2 14 rfl rfl)
theorem dX4_shape_63 : decode cX4_shape 63 = .ok (.sipush 233, 3) := dk_17 0 233 (dk_at dksX4_shape_2 17 rfl rfl)
theorem dX4_shape_66 : decode cX4_shape 66 = .ok (.iconst 0, 1) := dk_3 (dk_at dksX4_shape_2 20 rfl rfl)
theorem dX4_shape_67 : decode cX4_shape 67 = .ok (.iastore, 1) := dk_79 (dk_at dksX4_shape_2 21 rfl rfl)
theorem dX4_shape_68 : decode cX4_shape 68 = .ok (.aload_n 0, 1) := dk_42 (dk_at dksX4_shape_2 22 rfl rfl)
theorem dX4_shape_69 : decode cX4_shape 69 = .ok (.getfield 7, 3) := dk_180 0 7 (dk_at dksX4_shape_3 0 rfl rfl)
theorem dX4_shape_72 : decode cX4_shape 72 = .ok (.sipush 234, 3) := dk_17 0 234 (dk_at dksX4_shape_3 3 rfl rfl)
theorem dX4_shape_75 : decode cX4_shape 75 = .ok (.iconst 0, 1) := dk_3 (dk_at dksX4_shape_3 6 rfl rfl)
theorem dX4_shape_76 : decode cX4_shape 76 = .ok (.iastore, 1) := dk_79 (dk_at dksX4_shape_3 7 rfl rfl)
theorem dX4_shape_77 : decode cX4_shape 77 = .ok (.iconst 0, 1) := dk_3 (dk_at dksX4_shape_3 8 rfl rfl)
theorem dX4_shape_78 : decode cX4_shape 78 = .ok (.istore 4, 2) := dk_54 4 (dk_at dksX4_shape_3 9 rfl rfl)
theorem dX4_shape_80 : decode cX4_shape 80 = .ok (.iload 4, 2) := dk_21 4 (dk_at dksX4_shape_3 11 rfl rfl)
theorem dX4_shape_82 : decode cX4_shape 82 = .ok (.bipush 16, 2) := dk_16 16 (dk_at dksX4_shape_3 13 rfl rfl)
theorem dX4_shape_84 : decode cX4_shape 84 = .ok (.if_icmp .ge 21, 3) := dk_162 0 21 (dk_at dksX4_shape_3 15 rfl rfl)
theorem dX4_shape_87 : decode cX4_shape 87 = .ok (.aload_n 0, 1) := dk_42 (dk_at dksX4_shape_3 18 rfl rfl)
theorem dX4_shape_88 : decode cX4_shape 88 = .ok (.getfield 7, 3) := dk_180 0 7 (dk_at dksX4_shape_3 19 rfl rfl)
theorem dX4_shape_91 : decode cX4_shape 91 = .ok (.sipush 235, 3) := dk_17 0 235 (dk_at dksX4_shape_4 0 rfl rfl)
theorem dX4_shape_94 : decode cX4_shape 94 = .ok (.iload 4, 2) := dk_21 4 (dk_at dksX4_shape_4 3 rfl rfl)
theorem dX4_shape_96 : decode cX4_shape 96 = .ok (.iadd, 1) := dk_96 (dk_at dksX4_shape_4 5 rfl rfl)
theorem dX4_shape_97 : decode cX4_shape 97 = .ok (.iconst 0, 1) := dk_3 (dk_at dksX4_shape_4 6 rfl rfl)
theorem dX4_shape_98 : decode cX4_shape 98 = .ok (.iastore, 1) := dk_79 (dk_at dksX4_shape_4 7 rfl rfl)
theorem dX4_shape_99 : decode cX4_shape 99 = .ok (.iinc 4 1, 3) := dk_132 4 1 (dk_at dksX4_shape_4 8 rfl rfl)
theorem dX4_shape_102 : decode cX4_shape 102 = .ok (.goto (-22), 3) := dk_167 255 234 (dk_at dksX4_shape_4 11 rfl rfl)
theorem dX4_shape_105 : decode cX4_shape 105 = .ok (.aload_n 0, 1) := dk_42 (dk_at dksX4_shape_4 14 rfl rfl)
theorem dX4_shape_106 : decode cX4_shape 106 = .ok (.aload_n 0, 1) := dk_42 (dk_at dksX4_shape_4 15 rfl rfl)
theorem dX4_shape_107 : decode cX4_shape 107 = .ok (.iload_n 3, 1) := dk_29 (dk_at dksX4_shape_4 16 rfl rfl)
theorem dX4_shape_108 : decode cX4_shape 108 = .ok (.invokevirtual 119, 3) := dk_182 0 119 (dk_at dksX4_shape_4 17 rfl rfl)
theorem dX4_shape_111 : decode cX4_shape 111 = .ok (.invokevirtual 128, 3) := dk_182 0 128 (dk_at dksX4_shape_4 20 rfl rfl)
theorem dX4_shape_114 : decode cX4_shape 114 = .ok (.ireturn, 1) := dk_172 (dk_at dksX4_shape_4 23 rfl rfl)
abbrev cX4_rule : ByteArray := prog_15_method_43_code
def yX4_rule : MethodName := ⟨RX4, "rule", "(I)I"⟩
def dkwX4_rule_1 : List UInt8 := [6, 46, 61, 42, 180, 0, 7, 6, 27, 79, 42, 42, 28, 182, 0, 119, 182, 0, 128, 172]
abbrev dktX4_rule_1 : List UInt8 := dkwX4_rule_1 ++ []
def dkwX4_rule_0 : List UInt8 := [27, 3, 6, 184, 0, 68, 154, 0, 10, 42, 4, 27, 182, 0, 103, 172, 42, 182, 0, 122, 42, 180, 0, 7]
abbrev dktX4_rule_0 : List UInt8 := dkwX4_rule_0 ++ dktX4_rule_1
theorem dksX4_rule_0 : cX4_rule.data.toList.drop 0 = dktX4_rule_0 := by decide +kernel
theorem dksX4_rule_1 : cX4_rule.data.toList.drop 24 = dktX4_rule_1 := dk_seg dksX4_rule_0 24 rfl rfl
theorem dX4_rule_0 : decode cX4_rule 0 = .ok (.iload_n 1, 1) := dk_27 (dk_at dksX4_rule_0 0 rfl rfl)
theorem dX4_rule_1 : decode cX4_rule 1 = .ok (.iconst 0, 1) := dk_3 (dk_at dksX4_rule_0 1 rfl rfl)
theorem dX4_rule_2 : decode cX4_rule 2 = .ok (.iconst 3, 1) := dk_6 (dk_at dksX4_rule_0 2 rfl rfl)
theorem dX4_rule_3 : decode cX4_rule 3 = .ok (.invokestatic 68, 3) := dk_184 0 68 (dk_at dksX4_rule_0 3 rfl rfl)
theorem dX4_rule_6 : decode cX4_rule 6 = .ok (.ifCond .ne 10, 3) := dk_154 0 10 (dk_at dksX4_rule_0 6 rfl rfl)
theorem dX4_rule_9 : decode cX4_rule 9 = .ok (.aload_n 0, 1) := dk_42 (dk_at dksX4_rule_0 9 rfl rfl)
theorem dX4_rule_10 : decode cX4_rule 10 = .ok (.iconst 1, 1) := dk_4 (dk_at dksX4_rule_0 10 rfl rfl)
theorem dX4_rule_11 : decode cX4_rule 11 = .ok (.iload_n 1, 1) := dk_27 (dk_at dksX4_rule_0 11 rfl rfl)
theorem dX4_rule_12 : decode cX4_rule 12 = .ok (.invokevirtual 103, 3) := dk_182 0 103 (dk_at dksX4_rule_0 12 rfl rfl)
theorem dX4_rule_15 : decode cX4_rule 15 = .ok (.ireturn, 1) := dk_172 (dk_at dksX4_rule_0 15 rfl rfl)
theorem dX4_rule_16 : decode cX4_rule 16 = .ok (.aload_n 0, 1) := dk_42 (dk_at dksX4_rule_0 16 rfl rfl)
theorem dX4_rule_17 : decode cX4_rule 17 = .ok (.invokevirtual 122, 3) := dk_182 0 122 (dk_at dksX4_rule_0 17 rfl rfl)
theorem dX4_rule_20 : decode cX4_rule 20 = .ok (.aload_n 0, 1) := dk_42 (dk_at dksX4_rule_0 20 rfl rfl)
theorem dX4_rule_21 : decode cX4_rule 21 = .ok (.getfield 7, 3) := dk_180 0 7 (dk_at dksX4_rule_0 21 rfl rfl)
theorem dX4_rule_24 : decode cX4_rule 24 = .ok (.iconst 3, 1) := dk_6 (dk_at dksX4_rule_1 0 rfl rfl)
theorem dX4_rule_25 : decode cX4_rule 25 = .ok (.iaload, 1) := dk_46 (dk_at dksX4_rule_1 1 rfl rfl)
theorem dX4_rule_26 : decode cX4_rule 26 = .ok (.istore_n 2, 1) := dk_61 (dk_at dksX4_rule_1 2 rfl rfl)
theorem dX4_rule_27 : decode cX4_rule 27 = .ok (.aload_n 0, 1) := dk_42 (dk_at dksX4_rule_1 3 rfl rfl)
theorem dX4_rule_28 : decode cX4_rule 28 = .ok (.getfield 7, 3) := dk_180 0 7 (dk_at dksX4_rule_1 4 rfl rfl)
theorem dX4_rule_31 : decode cX4_rule 31 = .ok (.iconst 3, 1) := dk_6 (dk_at dksX4_rule_1 7 rfl rfl)
theorem dX4_rule_32 : decode cX4_rule 32 = .ok (.iload_n 1, 1) := dk_27 (dk_at dksX4_rule_1 8 rfl rfl)
theorem dX4_rule_33 : decode cX4_rule 33 = .ok (.iastore, 1) := dk_79 (dk_at dksX4_rule_1 9 rfl rfl)
theorem dX4_rule_34 : decode cX4_rule 34 = .ok (.aload_n 0, 1) := dk_42 (dk_at dksX4_rule_1 10 rfl rfl)
theorem dX4_rule_35 : decode cX4_rule 35 = .ok (.aload_n 0, 1) := dk_42 (dk_at dksX4_rule_1 11 rfl rfl)
theorem dX4_rule_36 : decode cX4_rule 36 = .ok (.iload_n 2, 1) := dk_28 (dk_at dksX4_rule_1 12 rfl rfl)
theorem dX4_rule_37 : decode cX4_rule 37 = .ok (.invokevirtual 119, 3) := dk_182 0 119 (dk_at dksX4_rule_1 13 rfl rfl)
theorem dX4_rule_40 : decode cX4_rule 40 = .ok (.invokevirtual 128, 3) := dk_182 0 128 (dk_at dksX4_rule_1 16 rfl rfl)
theorem dX4_rule_43 : decode cX4_rule 43 = .ok (.ireturn, 1) := dk_172 (dk_at dksX4_rule_1 19 rfl rfl)
abbrev cX4_through : ByteArray := prog_15_method_44_code
def yX4_through : MethodName := ⟨RX4, "through", "(Z)I"⟩
def dkwX4_through_1 : List UInt8 := [182, 0, 149, 182, 0, 119, 182, 0, 128, 172]
abbrev dktX4_through_1 : List UInt8 := dkwX4_through_1 ++ []
def dkwX4_through_0 : List UInt8 := [42, 182, 0, 122, 42, 180, 0, 7, 7, 27, 153, 0, 7, 4, 167, 0, 4, 3, 79, 42, 42, 42]
abbrev dktX4_through_0 : List UInt8 := dkwX4_through_0 ++ dktX4_through_1
theorem dksX4_through_0 : cX4_through.data.toList.drop 0 = dktX4_through_0 := by decide +kernel
theorem dksX4_through_1 : cX4_through.data.toList.drop 22 = dktX4_through_1 := dk_seg dksX4_through_0 22 rfl rfl
theorem dX4_through_0 : decode cX4_through 0 = .ok (.aload_n 0, 1) := dk_42 (dk_at dksX4_through_0 0 rfl rfl)
theorem dX4_through_1 : decode cX4_through 1 = .ok (.invokevirtual 122, 3) := dk_182 0 122 (dk_at dksX4_through_0 1 rfl rfl)
theorem dX4_through_4 : decode cX4_through 4 = .ok (.aload_n 0, 1) := dk_42 (dk_at dksX4_through_0 4 rfl rfl)
theorem dX4_through_5 : decode cX4_through 5 = .ok (.getfield 7, 3) := dk_180 0 7 (dk_at dksX4_through_0 5 rfl rfl)
theorem dX4_through_8 : decode cX4_through 8 = .ok (.iconst 4, 1) := dk_7 (dk_at dksX4_through_0 8 rfl rfl)
theorem dX4_through_9 : decode cX4_through 9 = .ok (.iload_n 1, 1) := dk_27 (dk_at dksX4_through_0 9 rfl rfl)
theorem dX4_through_10 : decode cX4_through 10 = .ok (.ifCond .eq 7, 3) := dk_153 0 7 (dk_at dksX4_through_0 10 rfl rfl)
theorem dX4_through_13 : decode cX4_through 13 = .ok (.iconst 1, 1) := dk_4 (dk_at dksX4_through_0 13 rfl rfl)
theorem dX4_through_14 : decode cX4_through 14 = .ok (.goto 4, 3) := dk_167 0 4 (dk_at dksX4_through_0 14 rfl rfl)
theorem dX4_through_17 : decode cX4_through 17 = .ok (.iconst 0, 1) := dk_3 (dk_at dksX4_through_0 17 rfl rfl)
theorem dX4_through_18 : decode cX4_through 18 = .ok (.iastore, 1) := dk_79 (dk_at dksX4_through_0 18 rfl rfl)
theorem dX4_through_19 : decode cX4_through 19 = .ok (.aload_n 0, 1) := dk_42 (dk_at dksX4_through_0 19 rfl rfl)
theorem dX4_through_20 : decode cX4_through 20 = .ok (.aload_n 0, 1) := dk_42 (dk_at dksX4_through_0 20 rfl rfl)
theorem dX4_through_21 : decode cX4_through 21 = .ok (.aload_n 0, 1) := dk_42 (dk_at dksX4_through_0 21 rfl rfl)
theorem dX4_through_22 : decode cX4_through 22 = .ok (.invokevirtual 149, 3) := dk_182 0 149 (dk_at dksX4_through_1 0 rfl rfl)
theorem dX4_through_25 : decode cX4_through 25 = .ok (.invokevirtual 119, 3) := dk_182 0 119 (dk_at dksX4_through_1 3 rfl rfl)
theorem dX4_through_28 : decode cX4_through 28 = .ok (.invokevirtual 128, 3) := dk_182 0 128 (dk_at dksX4_through_1 6 rfl rfl)
theorem dX4_through_31 : decode cX4_through 31 = .ok (.ireturn, 1) := dk_172 (dk_at dksX4_through_1 9 rfl rfl)
abbrev cX4_wordAt : ByteArray := prog_15_method_46_code
def yX4_wordAt : MethodName := ⟨RX4, "wordAt", "(I)I"⟩
def dkwX4_wordAt_1 : List UInt8 := [172]
abbrev dktX4_wordAt_1 : List UInt8 := dkwX4_wordAt_1 ++ []
def dkwX4_wordAt_0 : List UInt8 := [27, 184, 0, 113, 153, 0, 15, 42, 42, 27, 182, 0, 159, 182, 0, 119, 167, 0, 8, 42, 4, 182, 0, 57]
abbrev dktX4_wordAt_0 : List UInt8 := dkwX4_wordAt_0 ++ dktX4_wordAt_1
theorem dksX4_wordAt_0 : cX4_wordAt.data.toList.drop 0 = dktX4_wordAt_0 := by decide +kernel
theorem dksX4_wordAt_1 : cX4_wordAt.data.toList.drop 24 = dktX4_wordAt_1 := dk_seg dksX4_wordAt_0 24 rfl rfl
theorem dX4_wordAt_0 : decode cX4_wordAt 0 = .ok (.iload_n 1, 1) := dk_27 (dk_at dksX4_wordAt_0 0 rfl rfl)
theorem dX4_wordAt_1 : decode cX4_wordAt 1 = .ok (.invokestatic 113, 3) := dk_184 0 113 (dk_at dksX4_wordAt_0 1 rfl rfl)
theorem dX4_wordAt_4 : decode cX4_wordAt 4 = .ok (.ifCond .eq 15, 3) := dk_153 0 15 (dk_at dksX4_wordAt_0 4 rfl rfl)
theorem dX4_wordAt_7 : decode cX4_wordAt 7 = .ok (.aload_n 0, 1) := dk_42 (dk_at dksX4_wordAt_0 7 rfl rfl)
theorem dX4_wordAt_8 : decode cX4_wordAt 8 = .ok (.aload_n 0, 1) := dk_42 (dk_at dksX4_wordAt_0 8 rfl rfl)
theorem dX4_wordAt_9 : decode cX4_wordAt 9 = .ok (.iload_n 1, 1) := dk_27 (dk_at dksX4_wordAt_0 9 rfl rfl)
theorem dX4_wordAt_10 : decode cX4_wordAt 10 = .ok (.invokevirtual 159, 3) := dk_182 0 159 (dk_at dksX4_wordAt_0 10 rfl rfl)
theorem dX4_wordAt_13 : decode cX4_wordAt 13 = .ok (.invokevirtual 119, 3) := dk_182 0 119 (dk_at dksX4_wordAt_0 13 rfl rfl)
theorem dX4_wordAt_16 : decode cX4_wordAt 16 = .ok (.goto 8, 3) := dk_167 0 8 (dk_at dksX4_wordAt_0 16 rfl rfl)
theorem dX4_wordAt_19 : decode cX4_wordAt 19 = .ok (.aload_n 0, 1) := dk_42 (dk_at dksX4_wordAt_0 19 rfl rfl)
theorem dX4_wordAt_20 : decode cX4_wordAt 20 = .ok (.iconst 1, 1) := dk_4 (dk_at dksX4_wordAt_0 20 rfl rfl)
theorem dX4_wordAt_21 : decode cX4_wordAt 21 = .ok (.invokevirtual 57, 3) := dk_182 0 57 (dk_at dksX4_wordAt_0 21 rfl rfl)
theorem dX4_wordAt_24 : decode cX4_wordAt 24 = .ok (.ireturn, 1) := dk_172 (dk_at dksX4_wordAt_1 0 rfl rfl)
abbrev cX4_wordNow : ByteArray := prog_15_method_45_code
def yX4_wordNow : MethodName := ⟨RX4, "wordNow", "(I)I"⟩
def dkwX4_wordNow_1 : List UInt8 := [42, 180, 0, 7, 17, 0, 169, 7, 28, 104, 96, 27, 7, 112, 96, 46, 172]
abbrev dktX4_wordNow_1 : List UInt8 := dkwX4_wordNow_1 ++ []
def dkwX4_wordNow_0 : List UInt8 := [42, 27, 7, 108, 182, 0, 97, 61, 28, 2, 160, 0, 14, 42, 180, 0, 7, 8, 27, 96, 46, 167, 0, 19]
abbrev dktX4_wordNow_0 : List UInt8 := dkwX4_wordNow_0 ++ dktX4_wordNow_1
theorem dksX4_wordNow_0 : cX4_wordNow.data.toList.drop 0 = dktX4_wordNow_0 := by decide +kernel
theorem dksX4_wordNow_1 : cX4_wordNow.data.toList.drop 24 = dktX4_wordNow_1 := dk_seg dksX4_wordNow_0 24 rfl rfl
theorem dX4_wordNow_0 : decode cX4_wordNow 0 = .ok (.aload_n 0, 1) := dk_42 (dk_at dksX4_wordNow_0 0 rfl rfl)
theorem dX4_wordNow_1 : decode cX4_wordNow 1 = .ok (.iload_n 1, 1) := dk_27 (dk_at dksX4_wordNow_0 1 rfl rfl)
theorem dX4_wordNow_2 : decode cX4_wordNow 2 = .ok (.iconst 4, 1) := dk_7 (dk_at dksX4_wordNow_0 2 rfl rfl)
theorem dX4_wordNow_3 : decode cX4_wordNow 3 = .ok (.idiv, 1) := dk_108 (dk_at dksX4_wordNow_0 3 rfl rfl)
theorem dX4_wordNow_4 : decode cX4_wordNow 4 = .ok (.invokevirtual 97, 3) := dk_182 0 97 (dk_at dksX4_wordNow_0 4 rfl rfl)
theorem dX4_wordNow_7 : decode cX4_wordNow 7 = .ok (.istore_n 2, 1) := dk_61 (dk_at dksX4_wordNow_0 7 rfl rfl)
theorem dX4_wordNow_8 : decode cX4_wordNow 8 = .ok (.iload_n 2, 1) := dk_28 (dk_at dksX4_wordNow_0 8 rfl rfl)
theorem dX4_wordNow_9 : decode cX4_wordNow 9 = .ok (.iconst (-1), 1) := dk_2 (dk_at dksX4_wordNow_0 9 rfl rfl)
theorem dX4_wordNow_10 : decode cX4_wordNow 10 = .ok (.if_icmp .ne 14, 3) := dk_160 0 14 (dk_at dksX4_wordNow_0 10 rfl rfl)
theorem dX4_wordNow_13 : decode cX4_wordNow 13 = .ok (.aload_n 0, 1) := dk_42 (dk_at dksX4_wordNow_0 13 rfl rfl)
theorem dX4_wordNow_14 : decode cX4_wordNow 14 = .ok (.getfield 7, 3) := dk_180 0 7 (dk_at dksX4_wordNow_0 14 rfl rfl)
theorem dX4_wordNow_17 : decode cX4_wordNow 17 = .ok (.iconst 5, 1) := dk_8 (dk_at dksX4_wordNow_0 17 rfl rfl)
theorem dX4_wordNow_18 : decode cX4_wordNow 18 = .ok (.iload_n 1, 1) := dk_27 (dk_at dksX4_wordNow_0 18 rfl rfl)
theorem dX4_wordNow_19 : decode cX4_wordNow 19 = .ok (.iadd, 1) := dk_96 (dk_at dksX4_wordNow_0 19 rfl rfl)
theorem dX4_wordNow_20 : decode cX4_wordNow 20 = .ok (.iaload, 1) := dk_46 (dk_at dksX4_wordNow_0 20 rfl rfl)
theorem dX4_wordNow_21 : decode cX4_wordNow 21 = .ok (.goto 19, 3) := dk_167 0 19 (dk_at dksX4_wordNow_0 21 rfl rfl)
theorem dX4_wordNow_24 : decode cX4_wordNow 24 = .ok (.aload_n 0, 1) := dk_42 (dk_at dksX4_wordNow_1 0 rfl rfl)
theorem dX4_wordNow_25 : decode cX4_wordNow 25 = .ok (.getfield 7, 3) := dk_180 0 7 (dk_at dksX4_wordNow_1 1 rfl rfl)
theorem dX4_wordNow_28 : decode cX4_wordNow 28 = .ok (.sipush 169, 3) := dk_17 0 169 (dk_at dksX4_wordNow_1 4 rfl rfl)
theorem dX4_wordNow_31 : decode cX4_wordNow 31 = .ok (.iconst 4, 1) := dk_7 (dk_at dksX4_wordNow_1 7 rfl rfl)
theorem dX4_wordNow_32 : decode cX4_wordNow 32 = .ok (.iload_n 2, 1) := dk_28 (dk_at dksX4_wordNow_1 8 rfl rfl)
theorem dX4_wordNow_33 : decode cX4_wordNow 33 = .ok (.imul, 1) := dk_104 (dk_at dksX4_wordNow_1 9 rfl rfl)
theorem dX4_wordNow_34 : decode cX4_wordNow 34 = .ok (.iadd, 1) := dk_96 (dk_at dksX4_wordNow_1 10 rfl rfl)
theorem dX4_wordNow_35 : decode cX4_wordNow 35 = .ok (.iload_n 1, 1) := dk_27 (dk_at dksX4_wordNow_1 11 rfl rfl)
theorem dX4_wordNow_36 : decode cX4_wordNow 36 = .ok (.iconst 4, 1) := dk_7 (dk_at dksX4_wordNow_1 12 rfl rfl)
theorem dX4_wordNow_37 : decode cX4_wordNow 37 = .ok (.irem, 1) := dk_112 (dk_at dksX4_wordNow_1 13 rfl rfl)
theorem dX4_wordNow_38 : decode cX4_wordNow 38 = .ok (.iadd, 1) := dk_96 (dk_at dksX4_wordNow_1 14 rfl rfl)
theorem dX4_wordNow_39 : decode cX4_wordNow 39 = .ok (.iaload, 1) := dk_46 (dk_at dksX4_wordNow_1 15 rfl rfl)
theorem dX4_wordNow_40 : decode cX4_wordNow 40 = .ok (.ireturn, 1) := dk_172 (dk_at dksX4_wordNow_1 16 rfl rfl)
abbrev cX4_wordAgain : ByteArray := prog_15_method_47_code
def yX4_wordAgain : MethodName := ⟨RX4, "wordAgain", "(I)I"⟩
def dkwX4_wordAgain_1 : List UInt8 := [42, 4, 182, 0, 57, 172]
abbrev dktX4_wordAgain_1 : List UInt8 := dkwX4_wordAgain_1 ++ []
def dkwX4_wordAgain_0 : List UInt8 := [27, 184, 0, 113, 153, 0, 20, 42, 42, 180, 0, 7, 17, 1, 37, 27, 96, 46, 182, 0, 119, 167, 0, 8]
abbrev dktX4_wordAgain_0 : List UInt8 := dkwX4_wordAgain_0 ++ dktX4_wordAgain_1
theorem dksX4_wordAgain_0 : cX4_wordAgain.data.toList.drop 0 = dktX4_wordAgain_0 := by decide +kernel
theorem dksX4_wordAgain_1 : cX4_wordAgain.data.toList.drop 24 = dktX4_wordAgain_1 := dk_seg dksX4_wordAgain_0 24 rfl rfl
theorem dX4_wordAgain_0 : decode cX4_wordAgain 0 = .ok (.iload_n 1, 1) := dk_27 (dk_at dksX4_wordAgain_0 0 rfl rfl)
theorem dX4_wordAgain_1 : decode cX4_wordAgain 1 = .ok (.invokestatic 113, 3) := dk_184 0 113 (dk_at dksX4_wordAgain_0 1 rfl rfl)
theorem dX4_wordAgain_4 : decode cX4_wordAgain 4 = .ok (.ifCond .eq 20, 3) := dk_153 0 20 (dk_at dksX4_wordAgain_0 4 rfl rfl)
theorem dX4_wordAgain_7 : decode cX4_wordAgain 7 = .ok (.aload_n 0, 1) := dk_42 (dk_at dksX4_wordAgain_0 7 rfl rfl)
theorem dX4_wordAgain_8 : decode cX4_wordAgain 8 = .ok (.aload_n 0, 1) := dk_42 (dk_at dksX4_wordAgain_0 8 rfl rfl)
theorem dX4_wordAgain_9 : decode cX4_wordAgain 9 = .ok (.getfield 7, 3) := dk_180 0 7 (dk_at dksX4_wordAgain_0 9 rfl rfl)
theorem dX4_wordAgain_12 : decode cX4_wordAgain 12 = .ok (.sipush 293, 3) := dk_17 1 37 (dk_at dksX4_wordAgain_0 12 rfl rfl)
theorem dX4_wordAgain_15 : decode cX4_wordAgain 15 = .ok (.iload_n 1, 1) := dk_27 (dk_at dksX4_wordAgain_0 15 rfl rfl)
theorem dX4_wordAgain_16 : decode cX4_wordAgain 16 = .ok (.iadd, 1) := dk_96 (dk_at dksX4_wordAgain_0 16 rfl rfl)
theorem dX4_wordAgain_17 : decode cX4_wordAgain 17 = .ok (.iaload, 1) := dk_46 (dk_at dksX4_wordAgain_0 17 rfl rfl)
theorem dX4_wordAgain_18 : decode cX4_wordAgain 18 = .ok (.invokevirtual 119, 3) := dk_182 0 119 (dk_at dksX4_wordAgain_0 18 rfl rfl)
theorem dX4_wordAgain_21 : decode cX4_wordAgain 21 = .ok (.goto 8, 3) := dk_167 0 8 (dk_at dksX4_wordAgain_0 21 rfl rfl)
theorem dX4_wordAgain_24 : decode cX4_wordAgain 24 = .ok (.aload_n 0, 1) := dk_42 (dk_at dksX4_wordAgain_1 0 rfl rfl)
theorem dX4_wordAgain_25 : decode cX4_wordAgain 25 = .ok (.iconst 1, 1) := dk_4 (dk_at dksX4_wordAgain_1 1 rfl rfl)
theorem dX4_wordAgain_26 : decode cX4_wordAgain 26 = .ok (.invokevirtual 57, 3) := dk_182 0 57 (dk_at dksX4_wordAgain_1 2 rfl rfl)
theorem dX4_wordAgain_29 : decode cX4_wordAgain 29 = .ok (.ireturn, 1) := dk_172 (dk_at dksX4_wordAgain_1 5 rfl rfl)
abbrev cX4_stored : ByteArray := prog_15_method_48_code
def yX4_stored : MethodName := ⟨RX4, "stored", "(I)I"⟩
def dkwX4_stored_1 : List UInt8 := [182, 0, 57, 172]
abbrev dktX4_stored_1 : List UInt8 := dkwX4_stored_1 ++ []
def dkwX4_stored_0 : List UInt8 := [27, 184, 0, 113, 153, 0, 18, 42, 42, 180, 0, 7, 8, 27, 96, 46, 182, 0, 119, 167, 0, 8, 42, 4]
abbrev dktX4_stored_0 : List UInt8 := dkwX4_stored_0 ++ dktX4_stored_1
theorem dksX4_stored_0 : cX4_stored.data.toList.drop 0 = dktX4_stored_0 := by decide +kernel
theorem dksX4_stored_1 : cX4_stored.data.toList.drop 24 = dktX4_stored_1 := dk_seg dksX4_stored_0 24 rfl rfl
theorem dX4_stored_0 : decode cX4_stored 0 = .ok (.iload_n 1, 1) := dk_27 (dk_at dksX4_stored_0 0 rfl rfl)
theorem dX4_stored_1 : decode cX4_stored 1 = .ok (.invokestatic 113, 3) := dk_184 0 113 (dk_at dksX4_stored_0 1 rfl rfl)
theorem dX4_stored_4 : decode cX4_stored 4 = .ok (.ifCond .eq 18, 3) := dk_153 0 18 (dk_at dksX4_stored_0 4 rfl rfl)
theorem dX4_stored_7 : decode cX4_stored 7 = .ok (.aload_n 0, 1) := dk_42 (dk_at dksX4_stored_0 7 rfl rfl)
theorem dX4_stored_8 : decode cX4_stored 8 = .ok (.aload_n 0, 1) := dk_42 (dk_at dksX4_stored_0 8 rfl rfl)
theorem dX4_stored_9 : decode cX4_stored 9 = .ok (.getfield 7, 3) := dk_180 0 7 (dk_at dksX4_stored_0 9 rfl rfl)
theorem dX4_stored_12 : decode cX4_stored 12 = .ok (.iconst 5, 1) := dk_8 (dk_at dksX4_stored_0 12 rfl rfl)
theorem dX4_stored_13 : decode cX4_stored 13 = .ok (.iload_n 1, 1) := dk_27 (dk_at dksX4_stored_0 13 rfl rfl)
theorem dX4_stored_14 : decode cX4_stored 14 = .ok (.iadd, 1) := dk_96 (dk_at dksX4_stored_0 14 rfl rfl)
theorem dX4_stored_15 : decode cX4_stored 15 = .ok (.iaload, 1) := dk_46 (dk_at dksX4_stored_0 15 rfl rfl)
theorem dX4_stored_16 : decode cX4_stored 16 = .ok (.invokevirtual 119, 3) := dk_182 0 119 (dk_at dksX4_stored_0 16 rfl rfl)
theorem dX4_stored_19 : decode cX4_stored 19 = .ok (.goto 8, 3) := dk_167 0 8 (dk_at dksX4_stored_0 19 rfl rfl)
theorem dX4_stored_22 : decode cX4_stored 22 = .ok (.aload_n 0, 1) := dk_42 (dk_at dksX4_stored_0 22 rfl rfl)
theorem dX4_stored_23 : decode cX4_stored 23 = .ok (.iconst 1, 1) := dk_4 (dk_at dksX4_stored_0 23 rfl rfl)
theorem dX4_stored_24 : decode cX4_stored 24 = .ok (.invokevirtual 57, 3) := dk_182 0 57 (dk_at dksX4_stored_1 0 rfl rfl)
theorem dX4_stored_27 : decode cX4_stored 27 = .ok (.ireturn, 1) := dk_172 (dk_at dksX4_stored_1 3 rfl rfl)
abbrev cX4_lineOf : ByteArray := prog_15_method_49_code
def yX4_lineOf : MethodName := ⟨RX4, "lineOf", "(III)I"⟩
def dkwX4_lineOf_4 : List UInt8 := [16, 16, 29, 104, 96, 21, 4, 96, 46, 182, 0, 119, 172]
abbrev dktX4_lineOf_4 : List UInt8 := dkwX4_lineOf_4 ++ []
def dkwX4_lineOf_3 : List UInt8 := [54, 5, 42, 21, 5, 153, 0, 12, 29, 5, 164, 0, 7, 2, 167, 0, 18, 42, 180, 0, 7, 16, 73]
abbrev dktX4_lineOf_3 : List UInt8 := dkwX4_lineOf_3 ++ dktX4_lineOf_4
def dkwX4_lineOf_2 : List UInt8 := [28, 96, 54, 4, 42, 180, 0, 7, 16, 73, 21, 4, 96, 46, 2, 160, 0, 7, 4, 167, 0, 4, 3]
abbrev dktX4_lineOf_2 : List UInt8 := dkwX4_lineOf_2 ++ dktX4_lineOf_3
def dkwX4_lineOf_1 : List UInt8 := [42, 4, 182, 0, 57, 172, 29, 3, 8, 184, 0, 68, 154, 0, 9, 42, 5, 182, 0, 57, 172, 7, 27, 104]
abbrev dktX4_lineOf_1 : List UInt8 := dkwX4_lineOf_1 ++ dktX4_lineOf_2
def dkwX4_lineOf_0 : List UInt8 := [42, 27, 182, 0, 162, 153, 0, 19, 28, 3, 42, 180, 0, 7, 5, 46, 4, 100, 184, 0, 68, 154, 0, 9]
abbrev dktX4_lineOf_0 : List UInt8 := dkwX4_lineOf_0 ++ dktX4_lineOf_1
theorem dksX4_lineOf_0 : cX4_lineOf.data.toList.drop 0 = dktX4_lineOf_0 := by decide +kernel
theorem dksX4_lineOf_1 : cX4_lineOf.data.toList.drop 24 = dktX4_lineOf_1 := dk_seg dksX4_lineOf_0 24 rfl rfl
theorem dksX4_lineOf_2 : cX4_lineOf.data.toList.drop 48 = dktX4_lineOf_2 := dk_seg dksX4_lineOf_1 24 rfl rfl
theorem dksX4_lineOf_3 : cX4_lineOf.data.toList.drop 71 = dktX4_lineOf_3 := dk_seg dksX4_lineOf_2 23 rfl rfl
theorem dksX4_lineOf_4 : cX4_lineOf.data.toList.drop 94 = dktX4_lineOf_4 := dk_seg dksX4_lineOf_3 23 rfl rfl
theorem dX4_lineOf_0 : decode cX4_lineOf 0 = .ok (.aload_n 0, 1) := dk_42 (dk_at dksX4_lineOf_0 0 rfl rfl)
theorem dX4_lineOf_1 : decode cX4_lineOf 1 = .ok (.iload_n 1, 1) := dk_27 (dk_at dksX4_lineOf_0 1 rfl rfl)
theorem dX4_lineOf_2 : decode cX4_lineOf 2 = .ok (.invokevirtual 162, 3) := dk_182 0 162 (dk_at dksX4_lineOf_0 2 rfl rfl)
theorem dX4_lineOf_5 : decode cX4_lineOf 5 = .ok (.ifCond .eq 19, 3) := dk_153 0 19 (dk_at dksX4_lineOf_0 5 rfl rfl)
theorem dX4_lineOf_8 : decode cX4_lineOf 8 = .ok (.iload_n 2, 1) := dk_28 (dk_at dksX4_lineOf_0 8 rfl rfl)
theorem dX4_lineOf_9 : decode cX4_lineOf 9 = .ok (.iconst 0, 1) := dk_3 (dk_at dksX4_lineOf_0 9 rfl rfl)
theorem dX4_lineOf_10 : decode cX4_lineOf 10 = .ok (.aload_n 0, 1) := dk_42 (dk_at dksX4_lineOf_0 10 rfl rfl)
theorem dX4_lineOf_11 : decode cX4_lineOf 11 = .ok (.getfield 7, 3) := dk_180 0 7 (dk_at dksX4_lineOf_0 11 rfl rfl)
theorem dX4_lineOf_14 : decode cX4_lineOf 14 = .ok (.iconst 2, 1) := dk_5 (dk_at dksX4_lineOf_0 14 rfl rfl)
theorem dX4_lineOf_15 : decode cX4_lineOf 15 = .ok (.iaload, 1) := dk_46 (dk_at dksX4_lineOf_0 15 rfl rfl)
theorem dX4_lineOf_16 : decode cX4_lineOf 16 = .ok (.iconst 1, 1) := dk_4 (dk_at dksX4_lineOf_0 16 rfl rfl)
theorem dX4_lineOf_17 : decode cX4_lineOf 17 = .ok (.isub, 1) := dk_100 (dk_at dksX4_lineOf_0 17 rfl rfl)
theorem dX4_lineOf_18 : decode cX4_lineOf 18 = .ok (.invokestatic 68, 3) := dk_184 0 68 (dk_at dksX4_lineOf_0 18 rfl rfl)
theorem dX4_lineOf_21 : decode cX4_lineOf 21 = .ok (.ifCond .ne 9, 3) := dk_154 0 9 (dk_at dksX4_lineOf_0 21 rfl rfl)
theorem dX4_lineOf_24 : decode cX4_lineOf 24 = .ok (.aload_n 0, 1) := dk_42 (dk_at dksX4_lineOf_1 0 rfl rfl)
theorem dX4_lineOf_25 : decode cX4_lineOf 25 = .ok (.iconst 1, 1) := dk_4 (dk_at dksX4_lineOf_1 1 rfl rfl)
theorem dX4_lineOf_26 : decode cX4_lineOf 26 = .ok (.invokevirtual 57, 3) := dk_182 0 57 (dk_at dksX4_lineOf_1 2 rfl rfl)
theorem dX4_lineOf_29 : decode cX4_lineOf 29 = .ok (.ireturn, 1) := dk_172 (dk_at dksX4_lineOf_1 5 rfl rfl)
theorem dX4_lineOf_30 : decode cX4_lineOf 30 = .ok (.iload_n 3, 1) := dk_29 (dk_at dksX4_lineOf_1 6 rfl rfl)
theorem dX4_lineOf_31 : decode cX4_lineOf 31 = .ok (.iconst 0, 1) := dk_3 (dk_at dksX4_lineOf_1 7 rfl rfl)
theorem dX4_lineOf_32 : decode cX4_lineOf 32 = .ok (.iconst 5, 1) := dk_8 (dk_at dksX4_lineOf_1 8 rfl rfl)
theorem dX4_lineOf_33 : decode cX4_lineOf 33 = .ok (.invokestatic 68, 3) := dk_184 0 68 (dk_at dksX4_lineOf_1 9 rfl rfl)
theorem dX4_lineOf_36 : decode cX4_lineOf 36 = .ok (.ifCond .ne 9, 3) := dk_154 0 9 (dk_at dksX4_lineOf_1 12 rfl rfl)
theorem dX4_lineOf_39 : decode cX4_lineOf 39 = .ok (.aload_n 0, 1) := dk_42 (dk_at dksX4_lineOf_1 15 rfl rfl)
theorem dX4_lineOf_40 : decode cX4_lineOf 40 = .ok (.iconst 2, 1) := dk_5 (dk_at dksX4_lineOf_1 16 rfl rfl)
theorem dX4_lineOf_41 : decode cX4_lineOf 41 = .ok (.invokevirtual 57, 3) := dk_182 0 57 (dk_at dksX4_lineOf_1 17 rfl rfl)
theorem dX4_lineOf_44 : decode cX4_lineOf 44 = .ok (.ireturn, 1) := dk_172 (dk_at dksX4_lineOf_1 20 rfl rfl)
theorem dX4_lineOf_45 : decode cX4_lineOf 45 = .ok (.iconst 4, 1) := dk_7 (dk_at dksX4_lineOf_1 21 rfl rfl)
theorem dX4_lineOf_46 : decode cX4_lineOf 46 = .ok (.iload_n 1, 1) := dk_27 (dk_at dksX4_lineOf_1 22 rfl rfl)
theorem dX4_lineOf_47 : decode cX4_lineOf 47 = .ok (.imul, 1) := dk_104 (dk_at dksX4_lineOf_1 23 rfl rfl)
theorem dX4_lineOf_48 : decode cX4_lineOf 48 = .ok (.iload_n 2, 1) := dk_28 (dk_at dksX4_lineOf_2 0 rfl rfl)
theorem dX4_lineOf_49 : decode cX4_lineOf 49 = .ok (.iadd, 1) := dk_96 (dk_at dksX4_lineOf_2 1 rfl rfl)
theorem dX4_lineOf_50 : decode cX4_lineOf 50 = .ok (.istore 4, 2) := dk_54 4 (dk_at dksX4_lineOf_2 2 rfl rfl)
theorem dX4_lineOf_52 : decode cX4_lineOf 52 = .ok (.aload_n 0, 1) := dk_42 (dk_at dksX4_lineOf_2 4 rfl rfl)
theorem dX4_lineOf_53 : decode cX4_lineOf 53 = .ok (.getfield 7, 3) := dk_180 0 7 (dk_at dksX4_lineOf_2 5 rfl rfl)
theorem dX4_lineOf_56 : decode cX4_lineOf 56 = .ok (.bipush 73, 2) := dk_16 73 (dk_at dksX4_lineOf_2 8 rfl rfl)
theorem dX4_lineOf_58 : decode cX4_lineOf 58 = .ok (.iload 4, 2) := dk_21 4 (dk_at dksX4_lineOf_2 10 rfl rfl)
theorem dX4_lineOf_60 : decode cX4_lineOf 60 = .ok (.iadd, 1) := dk_96 (dk_at dksX4_lineOf_2 12 rfl rfl)
theorem dX4_lineOf_61 : decode cX4_lineOf 61 = .ok (.iaload, 1) := dk_46 (dk_at dksX4_lineOf_2 13 rfl rfl)
theorem dX4_lineOf_62 : decode cX4_lineOf 62 = .ok (.iconst (-1), 1) := dk_2 (dk_at dksX4_lineOf_2 14 rfl rfl)
theorem dX4_lineOf_63 : decode cX4_lineOf 63 = .ok (.if_icmp .ne 7, 3) := dk_160 0 7 (dk_at dksX4_lineOf_2 15 rfl rfl)
theorem dX4_lineOf_66 : decode cX4_lineOf 66 = .ok (.iconst 1, 1) := dk_4 (dk_at dksX4_lineOf_2 18 rfl rfl)
theorem dX4_lineOf_67 : decode cX4_lineOf 67 = .ok (.goto 4, 3) := dk_167 0 4 (dk_at dksX4_lineOf_2 19 rfl rfl)
theorem dX4_lineOf_70 : decode cX4_lineOf 70 = .ok (.iconst 0, 1) := dk_3 (dk_at dksX4_lineOf_2 22 rfl rfl)
theorem dX4_lineOf_71 : decode cX4_lineOf 71 = .ok (.istore 5, 2) := dk_54 5 (dk_at dksX4_lineOf_3 0 rfl rfl)
theorem dX4_lineOf_73 : decode cX4_lineOf 73 = .ok (.aload_n 0, 1) := dk_42 (dk_at dksX4_lineOf_3 2 rfl rfl)
theorem dX4_lineOf_74 : decode cX4_lineOf 74 = .ok (.iload 5, 2) := dk_21 5 (dk_at dksX4_lineOf_3 3 rfl rfl)
theorem dX4_lineOf_76 : decode cX4_lineOf 76 = .ok (.ifCond .eq 12, 3) := dk_153 0 12 (dk_at dksX4_lineOf_3 5 rfl rfl)
theorem dX4_lineOf_79 : decode cX4_lineOf 79 = .ok (.iload_n 3, 1) := dk_29 (dk_at dksX4_lineOf_3 8 rfl rfl)
theorem dX4_lineOf_80 : decode cX4_lineOf 80 = .ok (.iconst 2, 1) := dk_5 (dk_at dksX4_lineOf_3 9 rfl rfl)
theorem dX4_lineOf_81 : decode cX4_lineOf 81 = .ok (.if_icmp .le 7, 3) := dk_164 0 7 (dk_at dksX4_lineOf_3 10 rfl rfl)
theorem dX4_lineOf_84 : decode cX4_lineOf 84 = .ok (.iconst (-1), 1) := dk_2 (dk_at dksX4_lineOf_3 13 rfl rfl)
theorem dX4_lineOf_85 : decode cX4_lineOf 85 = .ok (.goto 18, 3) := dk_167 0 18 (dk_at dksX4_lineOf_3 14 rfl rfl)
theorem dX4_lineOf_88 : decode cX4_lineOf 88 = .ok (.aload_n 0, 1) := dk_42 (dk_at dksX4_lineOf_3 17 rfl rfl)
theorem dX4_lineOf_89 : decode cX4_lineOf 89 = .ok (.getfield 7, 3) := dk_180 0 7 (dk_at dksX4_lineOf_3 18 rfl rfl)
theorem dX4_lineOf_92 : decode cX4_lineOf 92 = .ok (.bipush 73, 2) := dk_16 73 (dk_at dksX4_lineOf_3 21 rfl rfl)
theorem dX4_lineOf_94 : decode cX4_lineOf 94 = .ok (.bipush 16, 2) := dk_16 16 (dk_at dksX4_lineOf_4 0 rfl rfl)
theorem dX4_lineOf_96 : decode cX4_lineOf 96 = .ok (.iload_n 3, 1) := dk_29 (dk_at dksX4_lineOf_4 2 rfl rfl)
theorem dX4_lineOf_97 : decode cX4_lineOf 97 = .ok (.imul, 1) := dk_104 (dk_at dksX4_lineOf_4 3 rfl rfl)
theorem dX4_lineOf_98 : decode cX4_lineOf 98 = .ok (.iadd, 1) := dk_96 (dk_at dksX4_lineOf_4 4 rfl rfl)
theorem dX4_lineOf_99 : decode cX4_lineOf 99 = .ok (.iload 4, 2) := dk_21 4 (dk_at dksX4_lineOf_4 5 rfl rfl)
theorem dX4_lineOf_101 : decode cX4_lineOf 101 = .ok (.iadd, 1) := dk_96 (dk_at dksX4_lineOf_4 7 rfl rfl)
theorem dX4_lineOf_102 : decode cX4_lineOf 102 = .ok (.iaload, 1) := dk_46 (dk_at dksX4_lineOf_4 8 rfl rfl)
theorem dX4_lineOf_103 : decode cX4_lineOf 103 = .ok (.invokevirtual 119, 3) := dk_182 0 119 (dk_at dksX4_lineOf_4 9 rfl rfl)
theorem dX4_lineOf_106 : decode cX4_lineOf 106 = .ok (.ireturn, 1) := dk_172 (dk_at dksX4_lineOf_4 12 rfl rfl)
abbrev cX4_isSet : ByteArray := prog_15_method_13_code
def yX4_isSet : MethodName := ⟨RX4, "isSet", "(I)Z"⟩
def dkwX4_isSet_0 : List UInt8 := [27, 3, 42, 180, 0, 7, 4, 46, 4, 100, 184, 0, 68, 172]
abbrev dktX4_isSet_0 : List UInt8 := dkwX4_isSet_0 ++ []
theorem dksX4_isSet_0 : cX4_isSet.data.toList.drop 0 = dktX4_isSet_0 := by decide +kernel
theorem dX4_isSet_0 : decode cX4_isSet 0 = .ok (.iload_n 1, 1) := dk_27 (dk_at dksX4_isSet_0 0 rfl rfl)
theorem dX4_isSet_1 : decode cX4_isSet 1 = .ok (.iconst 0, 1) := dk_3 (dk_at dksX4_isSet_0 1 rfl rfl)
theorem dX4_isSet_2 : decode cX4_isSet 2 = .ok (.aload_n 0, 1) := dk_42 (dk_at dksX4_isSet_0 2 rfl rfl)
theorem dX4_isSet_3 : decode cX4_isSet 3 = .ok (.getfield 7, 3) := dk_180 0 7 (dk_at dksX4_isSet_0 3 rfl rfl)
theorem dX4_isSet_6 : decode cX4_isSet 6 = .ok (.iconst 1, 1) := dk_4 (dk_at dksX4_isSet_0 6 rfl rfl)
theorem dX4_isSet_7 : decode cX4_isSet 7 = .ok (.iaload, 1) := dk_46 (dk_at dksX4_isSet_0 7 rfl rfl)
theorem dX4_isSet_8 : decode cX4_isSet 8 = .ok (.iconst 1, 1) := dk_4 (dk_at dksX4_isSet_0 8 rfl rfl)
theorem dX4_isSet_9 : decode cX4_isSet 9 = .ok (.isub, 1) := dk_100 (dk_at dksX4_isSet_0 9 rfl rfl)
theorem dX4_isSet_10 : decode cX4_isSet 10 = .ok (.invokestatic 68, 3) := dk_184 0 68 (dk_at dksX4_isSet_0 10 rfl rfl)
theorem dX4_isSet_13 : decode cX4_isSet 13 = .ok (.ireturn, 1) := dk_172 (dk_at dksX4_isSet_0 13 rfl rfl)
abbrev cX4_holder : ByteArray := prog_15_method_50_code
def yX4_holder : MethodName := ⟨RX4, "holder", "(I)I"⟩
def dkwX4_holder_1 : List UInt8 := [42, 5, 182, 0, 57, 167, 0, 10, 42, 28, 7, 112, 182, 0, 119, 172]
abbrev dktX4_holder_1 : List UInt8 := dkwX4_holder_1 ++ []
def dkwX4_holder_0 : List UInt8 := [27, 184, 0, 140, 154, 0, 9, 42, 4, 182, 0, 57, 172, 42, 27, 182, 0, 97, 61, 28, 2, 160, 0, 11]
abbrev dktX4_holder_0 : List UInt8 := dkwX4_holder_0 ++ dktX4_holder_1
theorem dksX4_holder_0 : cX4_holder.data.toList.drop 0 = dktX4_holder_0 := by decide +kernel
theorem dksX4_holder_1 : cX4_holder.data.toList.drop 24 = dktX4_holder_1 := dk_seg dksX4_holder_0 24 rfl rfl
theorem dX4_holder_0 : decode cX4_holder 0 = .ok (.iload_n 1, 1) := dk_27 (dk_at dksX4_holder_0 0 rfl rfl)
theorem dX4_holder_1 : decode cX4_holder 1 = .ok (.invokestatic 140, 3) := dk_184 0 140 (dk_at dksX4_holder_0 1 rfl rfl)
theorem dX4_holder_4 : decode cX4_holder 4 = .ok (.ifCond .ne 9, 3) := dk_154 0 9 (dk_at dksX4_holder_0 4 rfl rfl)
theorem dX4_holder_7 : decode cX4_holder 7 = .ok (.aload_n 0, 1) := dk_42 (dk_at dksX4_holder_0 7 rfl rfl)
theorem dX4_holder_8 : decode cX4_holder 8 = .ok (.iconst 1, 1) := dk_4 (dk_at dksX4_holder_0 8 rfl rfl)
theorem dX4_holder_9 : decode cX4_holder 9 = .ok (.invokevirtual 57, 3) := dk_182 0 57 (dk_at dksX4_holder_0 9 rfl rfl)
theorem dX4_holder_12 : decode cX4_holder 12 = .ok (.ireturn, 1) := dk_172 (dk_at dksX4_holder_0 12 rfl rfl)
theorem dX4_holder_13 : decode cX4_holder 13 = .ok (.aload_n 0, 1) := dk_42 (dk_at dksX4_holder_0 13 rfl rfl)
theorem dX4_holder_14 : decode cX4_holder 14 = .ok (.iload_n 1, 1) := dk_27 (dk_at dksX4_holder_0 14 rfl rfl)
theorem dX4_holder_15 : decode cX4_holder 15 = .ok (.invokevirtual 97, 3) := dk_182 0 97 (dk_at dksX4_holder_0 15 rfl rfl)
theorem dX4_holder_18 : decode cX4_holder 18 = .ok (.istore_n 2, 1) := dk_61 (dk_at dksX4_holder_0 18 rfl rfl)
theorem dX4_holder_19 : decode cX4_holder 19 = .ok (.iload_n 2, 1) := dk_28 (dk_at dksX4_holder_0 19 rfl rfl)
theorem dX4_holder_20 : decode cX4_holder 20 = .ok (.iconst (-1), 1) := dk_2 (dk_at dksX4_holder_0 20 rfl rfl)
theorem dX4_holder_21 : decode cX4_holder 21 = .ok (.if_icmp .ne 11, 3) := dk_160 0 11 (dk_at dksX4_holder_0 21 rfl rfl)
theorem dX4_holder_24 : decode cX4_holder 24 = .ok (.aload_n 0, 1) := dk_42 (dk_at dksX4_holder_1 0 rfl rfl)
theorem dX4_holder_25 : decode cX4_holder 25 = .ok (.iconst 2, 1) := dk_5 (dk_at dksX4_holder_1 1 rfl rfl)
theorem dX4_holder_26 : decode cX4_holder 26 = .ok (.invokevirtual 57, 3) := dk_182 0 57 (dk_at dksX4_holder_1 2 rfl rfl)
theorem dX4_holder_29 : decode cX4_holder 29 = .ok (.goto 10, 3) := dk_167 0 10 (dk_at dksX4_holder_1 5 rfl rfl)
theorem dX4_holder_32 : decode cX4_holder 32 = .ok (.aload_n 0, 1) := dk_42 (dk_at dksX4_holder_1 8 rfl rfl)
theorem dX4_holder_33 : decode cX4_holder 33 = .ok (.iload_n 2, 1) := dk_28 (dk_at dksX4_holder_1 9 rfl rfl)
theorem dX4_holder_34 : decode cX4_holder 34 = .ok (.iconst 4, 1) := dk_7 (dk_at dksX4_holder_1 10 rfl rfl)
theorem dX4_holder_35 : decode cX4_holder 35 = .ok (.irem, 1) := dk_112 (dk_at dksX4_holder_1 11 rfl rfl)
theorem dX4_holder_36 : decode cX4_holder 36 = .ok (.invokevirtual 119, 3) := dk_182 0 119 (dk_at dksX4_holder_1 12 rfl rfl)
theorem dX4_holder_39 : decode cX4_holder 39 = .ok (.ireturn, 1) := dk_172 (dk_at dksX4_holder_1 15 rfl rfl)
abbrev cX4_comesTo : ByteArray := prog_15_method_51_code
def yX4_comesTo : MethodName := ⟨RX4, "comesTo", "(I)I"⟩
def dkwX4_comesTo_2 : List UInt8 := [112, 182, 0, 119, 172]
abbrev dktX4_comesTo_2 : List UInt8 := dkwX4_comesTo_2 ++ []
def dkwX4_comesTo_1 : List UInt8 := [182, 0, 100, 167, 0, 4, 2, 61, 28, 2, 160, 0, 11, 42, 5, 182, 0, 57, 167, 0, 10, 42, 28, 7]
abbrev dktX4_comesTo_1 : List UInt8 := dkwX4_comesTo_1 ++ dktX4_comesTo_2
def dkwX4_comesTo_0 : List UInt8 := [27, 184, 0, 140, 154, 0, 9, 42, 4, 182, 0, 57, 172, 42, 27, 182, 0, 97, 2, 160, 0, 11, 42, 27]
abbrev dktX4_comesTo_0 : List UInt8 := dkwX4_comesTo_0 ++ dktX4_comesTo_1
theorem dksX4_comesTo_0 : cX4_comesTo.data.toList.drop 0 = dktX4_comesTo_0 := by decide +kernel
theorem dksX4_comesTo_1 : cX4_comesTo.data.toList.drop 24 = dktX4_comesTo_1 := dk_seg dksX4_comesTo_0 24 rfl rfl
theorem dksX4_comesTo_2 : cX4_comesTo.data.toList.drop 48 = dktX4_comesTo_2 := dk_seg dksX4_comesTo_1 24 rfl rfl
theorem dX4_comesTo_0 : decode cX4_comesTo 0 = .ok (.iload_n 1, 1) := dk_27 (dk_at dksX4_comesTo_0 0 rfl rfl)
theorem dX4_comesTo_1 : decode cX4_comesTo 1 = .ok (.invokestatic 140, 3) := dk_184 0 140 (dk_at dksX4_comesTo_0 1 rfl rfl)
theorem dX4_comesTo_4 : decode cX4_comesTo 4 = .ok (.ifCond .ne 9, 3) := dk_154 0 9 (dk_at dksX4_comesTo_0 4 rfl rfl)
theorem dX4_comesTo_7 : decode cX4_comesTo 7 = .ok (.aload_n 0, 1) := dk_42 (dk_at dksX4_comesTo_0 7 rfl rfl)
theorem dX4_comesTo_8 : decode cX4_comesTo 8 = .ok (.iconst 1, 1) := dk_4 (dk_at dksX4_comesTo_0 8 rfl rfl)
theorem dX4_comesTo_9 : decode cX4_comesTo 9 = .ok (.invokevirtual 57, 3) := dk_182 0 57 (dk_at dksX4_comesTo_0 9 rfl rfl)
theorem dX4_comesTo_12 : decode cX4_comesTo 12 = .ok (.ireturn, 1) := dk_172 (dk_at dksX4_comesTo_0 12 rfl rfl)
theorem dX4_comesTo_13 : decode cX4_comesTo 13 = .ok (.aload_n 0, 1) := dk_42 (dk_at dksX4_comesTo_0 13 rfl rfl)
theorem dX4_comesTo_14 : decode cX4_comesTo 14 = .ok (.iload_n 1, 1) := dk_27 (dk_at dksX4_comesTo_0 14 rfl rfl)
theorem dX4_comesTo_15 : decode cX4_comesTo 15 = .ok (.invokevirtual 97, 3) := dk_182 0 97 (dk_at dksX4_comesTo_0 15 rfl rfl)
theorem dX4_comesTo_18 : decode cX4_comesTo 18 = .ok (.iconst (-1), 1) := dk_2 (dk_at dksX4_comesTo_0 18 rfl rfl)
theorem dX4_comesTo_19 : decode cX4_comesTo 19 = .ok (.if_icmp .ne 11, 3) := dk_160 0 11 (dk_at dksX4_comesTo_0 19 rfl rfl)
theorem dX4_comesTo_22 : decode cX4_comesTo 22 = .ok (.aload_n 0, 1) := dk_42 (dk_at dksX4_comesTo_0 22 rfl rfl)
theorem dX4_comesTo_23 : decode cX4_comesTo 23 = .ok (.iload_n 1, 1) := dk_27 (dk_at dksX4_comesTo_0 23 rfl rfl)
theorem dX4_comesTo_24 : decode cX4_comesTo 24 = .ok (.invokevirtual 100, 3) := dk_182 0 100 (dk_at dksX4_comesTo_1 0 rfl rfl)
theorem dX4_comesTo_27 : decode cX4_comesTo 27 = .ok (.goto 4, 3) := dk_167 0 4 (dk_at dksX4_comesTo_1 3 rfl rfl)
theorem dX4_comesTo_30 : decode cX4_comesTo 30 = .ok (.iconst (-1), 1) := dk_2 (dk_at dksX4_comesTo_1 6 rfl rfl)
theorem dX4_comesTo_31 : decode cX4_comesTo 31 = .ok (.istore_n 2, 1) := dk_61 (dk_at dksX4_comesTo_1 7 rfl rfl)
theorem dX4_comesTo_32 : decode cX4_comesTo 32 = .ok (.iload_n 2, 1) := dk_28 (dk_at dksX4_comesTo_1 8 rfl rfl)
theorem dX4_comesTo_33 : decode cX4_comesTo 33 = .ok (.iconst (-1), 1) := dk_2 (dk_at dksX4_comesTo_1 9 rfl rfl)
theorem dX4_comesTo_34 : decode cX4_comesTo 34 = .ok (.if_icmp .ne 11, 3) := dk_160 0 11 (dk_at dksX4_comesTo_1 10 rfl rfl)
theorem dX4_comesTo_37 : decode cX4_comesTo 37 = .ok (.aload_n 0, 1) := dk_42 (dk_at dksX4_comesTo_1 13 rfl rfl)
theorem dX4_comesTo_38 : decode cX4_comesTo 38 = .ok (.iconst 2, 1) := dk_5 (dk_at dksX4_comesTo_1 14 rfl rfl)
theorem dX4_comesTo_39 : decode cX4_comesTo 39 = .ok (.invokevirtual 57, 3) := dk_182 0 57 (dk_at dksX4_comesTo_1 15 rfl rfl)
theorem dX4_comesTo_42 : decode cX4_comesTo 42 = .ok (.goto 10, 3) := dk_167 0 10 (dk_at dksX4_comesTo_1 18 rfl rfl)
theorem dX4_comesTo_45 : decode cX4_comesTo 45 = .ok (.aload_n 0, 1) := dk_42 (dk_at dksX4_comesTo_1 21 rfl rfl)
theorem dX4_comesTo_46 : decode cX4_comesTo 46 = .ok (.iload_n 2, 1) := dk_28 (dk_at dksX4_comesTo_1 22 rfl rfl)
theorem dX4_comesTo_47 : decode cX4_comesTo 47 = .ok (.iconst 4, 1) := dk_7 (dk_at dksX4_comesTo_1 23 rfl rfl)
theorem dX4_comesTo_48 : decode cX4_comesTo 48 = .ok (.irem, 1) := dk_112 (dk_at dksX4_comesTo_2 0 rfl rfl)
theorem dX4_comesTo_49 : decode cX4_comesTo 49 = .ok (.invokevirtual 119, 3) := dk_182 0 119 (dk_at dksX4_comesTo_2 1 rfl rfl)
theorem dX4_comesTo_52 : decode cX4_comesTo 52 = .ok (.ireturn, 1) := dk_172 (dk_at dksX4_comesTo_2 4 rfl rfl)
abbrev cX4_giving : ByteArray := prog_15_method_52_code
def yX4_giving : MethodName := ⟨RX4, "giving", "(II)I"⟩
def dkwX4_giving_5 : List UInt8 := [182, 0, 119, 172, 132, 3, 1, 167, 255, 149, 42, 5, 182, 0, 57, 172]
abbrev dktX4_giving_5 : List UInt8 := dkwX4_giving_5 ++ []
def dkwX4_giving_4 : List UInt8 := [167, 255, 195, 42, 7, 27, 104, 29, 96, 182, 0, 79, 153, 0, 15, 21, 4, 28, 160, 0, 9, 42, 29]
abbrev dktX4_giving_4 : List UInt8 := dkwX4_giving_4 ++ dktX4_giving_5
def dkwX4_giving_3 : List UInt8 := [7, 27, 104, 29, 96, 182, 0, 83, 153, 0, 7, 4, 167, 0, 4, 3, 96, 54, 4, 132, 5, 1]
abbrev dktX4_giving_3 : List UInt8 := dkwX4_giving_3 ++ dktX4_giving_4
def dkwX4_giving_2 : List UInt8 := [29, 159, 0, 38, 42, 7, 27, 104, 21, 5, 96, 182, 0, 79, 153, 0, 25, 42, 7, 27, 104, 21, 5, 96]
abbrev dktX4_giving_2 : List UInt8 := dkwX4_giving_2 ++ dktX4_giving_3
def dkwX4_giving_1 : List UInt8 := [162, 0, 103, 3, 54, 4, 3, 54, 5, 21, 5, 42, 180, 0, 7, 5, 46, 162, 0, 56, 21, 4, 21, 5]
abbrev dktX4_giving_1 : List UInt8 := dkwX4_giving_1 ++ dktX4_giving_2
def dkwX4_giving_0 : List UInt8 := [42, 27, 182, 0, 162, 154, 0, 9, 42, 4, 182, 0, 57, 172, 3, 62, 29, 42, 180, 0, 7, 5, 46]
abbrev dktX4_giving_0 : List UInt8 := dkwX4_giving_0 ++ dktX4_giving_1
theorem dksX4_giving_0 : cX4_giving.data.toList.drop 0 = dktX4_giving_0 := by decide +kernel
theorem dksX4_giving_1 : cX4_giving.data.toList.drop 23 = dktX4_giving_1 := dk_seg dksX4_giving_0 23 rfl rfl
theorem dksX4_giving_2 : cX4_giving.data.toList.drop 47 = dktX4_giving_2 := dk_seg dksX4_giving_1 24 rfl rfl
theorem dksX4_giving_3 : cX4_giving.data.toList.drop 71 = dktX4_giving_3 := dk_seg dksX4_giving_2 24 rfl rfl
theorem dksX4_giving_4 : cX4_giving.data.toList.drop 93 = dktX4_giving_4 := dk_seg dksX4_giving_3 22 rfl rfl
theorem dksX4_giving_5 : cX4_giving.data.toList.drop 116 = dktX4_giving_5 := dk_seg dksX4_giving_4 23 rfl rfl
theorem dX4_giving_0 : decode cX4_giving 0 = .ok (.aload_n 0, 1) := dk_42 (dk_at dksX4_giving_0 0 rfl rfl)
theorem dX4_giving_1 : decode cX4_giving 1 = .ok (.iload_n 1, 1) := dk_27 (dk_at dksX4_giving_0 1 rfl rfl)
theorem dX4_giving_2 : decode cX4_giving 2 = .ok (.invokevirtual 162, 3) := dk_182 0 162 (dk_at dksX4_giving_0 2 rfl rfl)
theorem dX4_giving_5 : decode cX4_giving 5 = .ok (.ifCond .ne 9, 3) := dk_154 0 9 (dk_at dksX4_giving_0 5 rfl rfl)
theorem dX4_giving_8 : decode cX4_giving 8 = .ok (.aload_n 0, 1) := dk_42 (dk_at dksX4_giving_0 8 rfl rfl)
theorem dX4_giving_9 : decode cX4_giving 9 = .ok (.iconst 1, 1) := dk_4 (dk_at dksX4_giving_0 9 rfl rfl)
theorem dX4_giving_10 : decode cX4_giving 10 = .ok (.invokevirtual 57, 3) := dk_182 0 57 (dk_at dksX4_giving_0 10 rfl rfl)
theorem dX4_giving_13 : decode cX4_giving 13 = .ok (.ireturn, 1) := dk_172 (dk_at dksX4_giving_0 13 rfl rfl)
theorem dX4_giving_14 : decode cX4_giving 14 = .ok (.iconst 0, 1) := dk_3 (dk_at dksX4_giving_0 14 rfl rfl)
theorem dX4_giving_15 : decode cX4_giving 15 = .ok (.istore_n 3, 1) := dk_62 (dk_at dksX4_giving_0 15 rfl rfl)
theorem dX4_giving_16 : decode cX4_giving 16 = .ok (.iload_n 3, 1) := dk_29 (dk_at dksX4_giving_0 16 rfl rfl)
theorem dX4_giving_17 : decode cX4_giving 17 = .ok (.aload_n 0, 1) := dk_42 (dk_at dksX4_giving_0 17 rfl rfl)
theorem dX4_giving_18 : decode cX4_giving 18 = .ok (.getfield 7, 3) := dk_180 0 7 (dk_at dksX4_giving_0 18 rfl rfl)
theorem dX4_giving_21 : decode cX4_giving 21 = .ok (.iconst 2, 1) := dk_5 (dk_at dksX4_giving_0 21 rfl rfl)
theorem dX4_giving_22 : decode cX4_giving 22 = .ok (.iaload, 1) := dk_46 (dk_at dksX4_giving_0 22 rfl rfl)
theorem dX4_giving_23 : decode cX4_giving 23 = .ok (.if_icmp .ge 103, 3) := dk_162 0 103 (dk_at dksX4_giving_1 0 rfl rfl)
theorem dX4_giving_26 : decode cX4_giving 26 = .ok (.iconst 0, 1) := dk_3 (dk_at dksX4_giving_1 3 rfl rfl)
theorem dX4_giving_27 : decode cX4_giving 27 = .ok (.istore 4, 2) := dk_54 4 (dk_at dksX4_giving_1 4 rfl rfl)
theorem dX4_giving_29 : decode cX4_giving 29 = .ok (.iconst 0, 1) := dk_3 (dk_at dksX4_giving_1 6 rfl rfl)
theorem dX4_giving_30 : decode cX4_giving 30 = .ok (.istore 5, 2) := dk_54 5 (dk_at dksX4_giving_1 7 rfl rfl)
theorem dX4_giving_32 : decode cX4_giving 32 = .ok (.iload 5, 2) := dk_21 5 (dk_at dksX4_giving_1 9 rfl rfl)
theorem dX4_giving_34 : decode cX4_giving 34 = .ok (.aload_n 0, 1) := dk_42 (dk_at dksX4_giving_1 11 rfl rfl)
theorem dX4_giving_35 : decode cX4_giving 35 = .ok (.getfield 7, 3) := dk_180 0 7 (dk_at dksX4_giving_1 12 rfl rfl)
theorem dX4_giving_38 : decode cX4_giving 38 = .ok (.iconst 2, 1) := dk_5 (dk_at dksX4_giving_1 15 rfl rfl)
theorem dX4_giving_39 : decode cX4_giving 39 = .ok (.iaload, 1) := dk_46 (dk_at dksX4_giving_1 16 rfl rfl)
theorem dX4_giving_40 : decode cX4_giving 40 = .ok (.if_icmp .ge 56, 3) := dk_162 0 56 (dk_at dksX4_giving_1 17 rfl rfl)
theorem dX4_giving_43 : decode cX4_giving 43 = .ok (.iload 4, 2) := dk_21 4 (dk_at dksX4_giving_1 20 rfl rfl)
theorem dX4_giving_45 : decode cX4_giving 45 = .ok (.iload 5, 2) := dk_21 5 (dk_at dksX4_giving_1 22 rfl rfl)
theorem dX4_giving_47 : decode cX4_giving 47 = .ok (.iload_n 3, 1) := dk_29 (dk_at dksX4_giving_2 0 rfl rfl)
theorem dX4_giving_48 : decode cX4_giving 48 = .ok (.if_icmp .eq 38, 3) := dk_159 0 38 (dk_at dksX4_giving_2 1 rfl rfl)
theorem dX4_giving_51 : decode cX4_giving 51 = .ok (.aload_n 0, 1) := dk_42 (dk_at dksX4_giving_2 4 rfl rfl)
theorem dX4_giving_52 : decode cX4_giving 52 = .ok (.iconst 4, 1) := dk_7 (dk_at dksX4_giving_2 5 rfl rfl)
theorem dX4_giving_53 : decode cX4_giving 53 = .ok (.iload_n 1, 1) := dk_27 (dk_at dksX4_giving_2 6 rfl rfl)
theorem dX4_giving_54 : decode cX4_giving 54 = .ok (.imul, 1) := dk_104 (dk_at dksX4_giving_2 7 rfl rfl)
theorem dX4_giving_55 : decode cX4_giving 55 = .ok (.iload 5, 2) := dk_21 5 (dk_at dksX4_giving_2 8 rfl rfl)
theorem dX4_giving_57 : decode cX4_giving 57 = .ok (.iadd, 1) := dk_96 (dk_at dksX4_giving_2 10 rfl rfl)
theorem dX4_giving_58 : decode cX4_giving 58 = .ok (.invokevirtual 79, 3) := dk_182 0 79 (dk_at dksX4_giving_2 11 rfl rfl)
theorem dX4_giving_61 : decode cX4_giving 61 = .ok (.ifCond .eq 25, 3) := dk_153 0 25 (dk_at dksX4_giving_2 14 rfl rfl)
theorem dX4_giving_64 : decode cX4_giving 64 = .ok (.aload_n 0, 1) := dk_42 (dk_at dksX4_giving_2 17 rfl rfl)
theorem dX4_giving_65 : decode cX4_giving 65 = .ok (.iconst 4, 1) := dk_7 (dk_at dksX4_giving_2 18 rfl rfl)
theorem dX4_giving_66 : decode cX4_giving 66 = .ok (.iload_n 1, 1) := dk_27 (dk_at dksX4_giving_2 19 rfl rfl)
theorem dX4_giving_67 : decode cX4_giving 67 = .ok (.imul, 1) := dk_104 (dk_at dksX4_giving_2 20 rfl rfl)
theorem dX4_giving_68 : decode cX4_giving 68 = .ok (.iload 5, 2) := dk_21 5 (dk_at dksX4_giving_2 21 rfl rfl)
theorem dX4_giving_70 : decode cX4_giving 70 = .ok (.iadd, 1) := dk_96 (dk_at dksX4_giving_2 23 rfl rfl)
theorem dX4_giving_71 : decode cX4_giving 71 = .ok (.iconst 4, 1) := dk_7 (dk_at dksX4_giving_3 0 rfl rfl)
theorem dX4_giving_72 : decode cX4_giving 72 = .ok (.iload_n 1, 1) := dk_27 (dk_at dksX4_giving_3 1 rfl rfl)
theorem dX4_giving_73 : decode cX4_giving 73 = .ok (.imul, 1) := dk_104 (dk_at dksX4_giving_3 2 rfl rfl)
theorem dX4_giving_74 : decode cX4_giving 74 = .ok (.iload_n 3, 1) := dk_29 (dk_at dksX4_giving_3 3 rfl rfl)
theorem dX4_giving_75 : decode cX4_giving 75 = .ok (.iadd, 1) := dk_96 (dk_at dksX4_giving_3 4 rfl rfl)
theorem dX4_giving_76 : decode cX4_giving 76 = .ok (.invokevirtual 83, 3) := dk_182 0 83 (dk_at dksX4_giving_3 5 rfl rfl)
theorem dX4_giving_79 : decode cX4_giving 79 = .ok (.ifCond .eq 7, 3) := dk_153 0 7 (dk_at dksX4_giving_3 8 rfl rfl)
theorem dX4_giving_82 : decode cX4_giving 82 = .ok (.iconst 1, 1) := dk_4 (dk_at dksX4_giving_3 11 rfl rfl)
theorem dX4_giving_83 : decode cX4_giving 83 = .ok (.goto 4, 3) := dk_167 0 4 (dk_at dksX4_giving_3 12 rfl rfl)
theorem dX4_giving_86 : decode cX4_giving 86 = .ok (.iconst 0, 1) := dk_3 (dk_at dksX4_giving_3 15 rfl rfl)
theorem dX4_giving_87 : decode cX4_giving 87 = .ok (.iadd, 1) := dk_96 (dk_at dksX4_giving_3 16 rfl rfl)
theorem dX4_giving_88 : decode cX4_giving 88 = .ok (.istore 4, 2) := dk_54 4 (dk_at dksX4_giving_3 17 rfl rfl)
theorem dX4_giving_90 : decode cX4_giving 90 = .ok (.iinc 5 1, 3) := dk_132 5 1 (dk_at dksX4_giving_3 19 rfl rfl)
theorem dX4_giving_93 : decode cX4_giving 93 = .ok (.goto (-61), 3) := dk_167 255 195 (dk_at dksX4_giving_4 0 rfl rfl)
theorem dX4_giving_96 : decode cX4_giving 96 = .ok (.aload_n 0, 1) := dk_42 (dk_at dksX4_giving_4 3 rfl rfl)
theorem dX4_giving_97 : decode cX4_giving 97 = .ok (.iconst 4, 1) := dk_7 (dk_at dksX4_giving_4 4 rfl rfl)
theorem dX4_giving_98 : decode cX4_giving 98 = .ok (.iload_n 1, 1) := dk_27 (dk_at dksX4_giving_4 5 rfl rfl)
theorem dX4_giving_99 : decode cX4_giving 99 = .ok (.imul, 1) := dk_104 (dk_at dksX4_giving_4 6 rfl rfl)
theorem dX4_giving_100 : decode cX4_giving 100 = .ok (.iload_n 3, 1) := dk_29 (dk_at dksX4_giving_4 7 rfl rfl)
theorem dX4_giving_101 : decode cX4_giving 101 = .ok (.iadd, 1) := dk_96 (dk_at dksX4_giving_4 8 rfl rfl)
theorem dX4_giving_102 : decode cX4_giving 102 = .ok (.invokevirtual 79, 3) := dk_182 0 79 (dk_at dksX4_giving_4 9 rfl rfl)
theorem dX4_giving_105 : decode cX4_giving 105 = .ok (.ifCond .eq 15, 3) := dk_153 0 15 (dk_at dksX4_giving_4 12 rfl rfl)
theorem dX4_giving_108 : decode cX4_giving 108 = .ok (.iload 4, 2) := dk_21 4 (dk_at dksX4_giving_4 15 rfl rfl)
theorem dX4_giving_110 : decode cX4_giving 110 = .ok (.iload_n 2, 1) := dk_28 (dk_at dksX4_giving_4 17 rfl rfl)
theorem dX4_giving_111 : decode cX4_giving 111 = .ok (.if_icmp .ne 9, 3) := dk_160 0 9 (dk_at dksX4_giving_4 18 rfl rfl)
theorem dX4_giving_114 : decode cX4_giving 114 = .ok (.aload_n 0, 1) := dk_42 (dk_at dksX4_giving_4 21 rfl rfl)
theorem dX4_giving_115 : decode cX4_giving 115 = .ok (.iload_n 3, 1) := dk_29 (dk_at dksX4_giving_4 22 rfl rfl)
theorem dX4_giving_116 : decode cX4_giving 116 = .ok (.invokevirtual 119, 3) := dk_182 0 119 (dk_at dksX4_giving_5 0 rfl rfl)
theorem dX4_giving_119 : decode cX4_giving 119 = .ok (.ireturn, 1) := dk_172 (dk_at dksX4_giving_5 3 rfl rfl)
theorem dX4_giving_120 : decode cX4_giving 120 = .ok (.iinc 3 1, 3) := dk_132 3 1 (dk_at dksX4_giving_5 4 rfl rfl)
theorem dX4_giving_123 : decode cX4_giving 123 = .ok (.goto (-107), 3) := dk_167 255 149 (dk_at dksX4_giving_5 7 rfl rfl)
theorem dX4_giving_126 : decode cX4_giving 126 = .ok (.aload_n 0, 1) := dk_42 (dk_at dksX4_giving_5 10 rfl rfl)
theorem dX4_giving_127 : decode cX4_giving 127 = .ok (.iconst 2, 1) := dk_5 (dk_at dksX4_giving_5 11 rfl rfl)
theorem dX4_giving_128 : decode cX4_giving 128 = .ok (.invokevirtual 57, 3) := dk_182 0 57 (dk_at dksX4_giving_5 12 rfl rfl)
theorem dX4_giving_131 : decode cX4_giving 131 = .ok (.ireturn, 1) := dk_172 (dk_at dksX4_giving_5 15 rfl rfl)
abbrev cX4_wouldTake : ByteArray := prog_15_method_53_code
def yX4_wouldTake : MethodName := ⟨RX4, "wouldTake", "(I)I"⟩
def dkwX4_wouldTake_3 : List UInt8 := [46, 100, 54, 4, 42, 180, 0, 22, 3, 42, 180, 0, 7, 3, 184, 0, 61, 42, 21, 4, 182, 0, 119, 172]
abbrev dktX4_wouldTake_3 : List UInt8 := dkwX4_wouldTake_3 ++ []
def dkwX4_wouldTake_2 : List UInt8 := [180, 0, 22, 3, 184, 0, 61, 42, 28, 182, 0, 116, 62, 42, 180, 0, 7, 3, 46, 42, 180, 0, 22, 3]
abbrev dktX4_wouldTake_2 : List UInt8 := dkwX4_wouldTake_2 ++ dktX4_wouldTake_3
def dkwX4_wouldTake_1 : List UInt8 := [160, 0, 18, 42, 28, 182, 0, 100, 2, 160, 0, 9, 42, 5, 182, 0, 57, 172, 42, 180, 0, 7, 3, 42]
abbrev dktX4_wouldTake_1 : List UInt8 := dkwX4_wouldTake_1 ++ dktX4_wouldTake_2
def dkwX4_wouldTake_0 : List UInt8 := [27, 184, 0, 113, 154, 0, 9, 42, 4, 182, 0, 57, 172, 27, 7, 108, 61, 42, 28, 182, 0, 97, 2]
abbrev dktX4_wouldTake_0 : List UInt8 := dkwX4_wouldTake_0 ++ dktX4_wouldTake_1
theorem dksX4_wouldTake_0 : cX4_wouldTake.data.toList.drop 0 = dktX4_wouldTake_0 := by decide +kernel
theorem dksX4_wouldTake_1 : cX4_wouldTake.data.toList.drop 23 = dktX4_wouldTake_1 := dk_seg dksX4_wouldTake_0 23 rfl rfl
theorem dksX4_wouldTake_2 : cX4_wouldTake.data.toList.drop 47 = dktX4_wouldTake_2 := dk_seg dksX4_wouldTake_1 24 rfl rfl
theorem dksX4_wouldTake_3 : cX4_wouldTake.data.toList.drop 71 = dktX4_wouldTake_3 := dk_seg dksX4_wouldTake_2 24 rfl rfl
theorem dX4_wouldTake_0 : decode cX4_wouldTake 0 = .ok (.iload_n 1, 1) := dk_27 (dk_at dksX4_wouldTake_0 0 rfl rfl)
theorem dX4_wouldTake_1 : decode cX4_wouldTake 1 = .ok (.invokestatic 113, 3) := dk_184 0 113 (dk_at dksX4_wouldTake_0 1 rfl rfl)
theorem dX4_wouldTake_4 : decode cX4_wouldTake 4 = .ok (.ifCond .ne 9, 3) := dk_154 0 9 (dk_at dksX4_wouldTake_0 4 rfl rfl)
theorem dX4_wouldTake_7 : decode cX4_wouldTake 7 = .ok (.aload_n 0, 1) := dk_42 (dk_at dksX4_wouldTake_0 7 rfl rfl)
theorem dX4_wouldTake_8 : decode cX4_wouldTake 8 = .ok (.iconst 1, 1) := dk_4 (dk_at dksX4_wouldTake_0 8 rfl rfl)
theorem dX4_wouldTake_9 : decode cX4_wouldTake 9 = .ok (.invokevirtual 57, 3) := dk_182 0 57 (dk_at dksX4_wouldTake_0 9 rfl rfl)
theorem dX4_wouldTake_12 : decode cX4_wouldTake 12 = .ok (.ireturn, 1) := dk_172 (dk_at dksX4_wouldTake_0 12 rfl rfl)
theorem dX4_wouldTake_13 : decode cX4_wouldTake 13 = .ok (.iload_n 1, 1) := dk_27 (dk_at dksX4_wouldTake_0 13 rfl rfl)
theorem dX4_wouldTake_14 : decode cX4_wouldTake 14 = .ok (.iconst 4, 1) := dk_7 (dk_at dksX4_wouldTake_0 14 rfl rfl)
theorem dX4_wouldTake_15 : decode cX4_wouldTake 15 = .ok (.idiv, 1) := dk_108 (dk_at dksX4_wouldTake_0 15 rfl rfl)
theorem dX4_wouldTake_16 : decode cX4_wouldTake 16 = .ok (.istore_n 2, 1) := dk_61 (dk_at dksX4_wouldTake_0 16 rfl rfl)
theorem dX4_wouldTake_17 : decode cX4_wouldTake 17 = .ok (.aload_n 0, 1) := dk_42 (dk_at dksX4_wouldTake_0 17 rfl rfl)
theorem dX4_wouldTake_18 : decode cX4_wouldTake 18 = .ok (.iload_n 2, 1) := dk_28 (dk_at dksX4_wouldTake_0 18 rfl rfl)
theorem dX4_wouldTake_19 : decode cX4_wouldTake 19 = .ok (.invokevirtual 97, 3) := dk_182 0 97 (dk_at dksX4_wouldTake_0 19 rfl rfl)
theorem dX4_wouldTake_22 : decode cX4_wouldTake 22 = .ok (.iconst (-1), 1) := dk_2 (dk_at dksX4_wouldTake_0 22 rfl rfl)
theorem dX4_wouldTake_23 : decode cX4_wouldTake 23 = .ok (.if_icmp .ne 18, 3) := dk_160 0 18 (dk_at dksX4_wouldTake_1 0 rfl rfl)
theorem dX4_wouldTake_26 : decode cX4_wouldTake 26 = .ok (.aload_n 0, 1) := dk_42 (dk_at dksX4_wouldTake_1 3 rfl rfl)
theorem dX4_wouldTake_27 : decode cX4_wouldTake 27 = .ok (.iload_n 2, 1) := dk_28 (dk_at dksX4_wouldTake_1 4 rfl rfl)
theorem dX4_wouldTake_28 : decode cX4_wouldTake 28 = .ok (.invokevirtual 100, 3) := dk_182 0 100 (dk_at dksX4_wouldTake_1 5 rfl rfl)
theorem dX4_wouldTake_31 : decode cX4_wouldTake 31 = .ok (.iconst (-1), 1) := dk_2 (dk_at dksX4_wouldTake_1 8 rfl rfl)
theorem dX4_wouldTake_32 : decode cX4_wouldTake 32 = .ok (.if_icmp .ne 9, 3) := dk_160 0 9 (dk_at dksX4_wouldTake_1 9 rfl rfl)
theorem dX4_wouldTake_35 : decode cX4_wouldTake 35 = .ok (.aload_n 0, 1) := dk_42 (dk_at dksX4_wouldTake_1 12 rfl rfl)
theorem dX4_wouldTake_36 : decode cX4_wouldTake 36 = .ok (.iconst 2, 1) := dk_5 (dk_at dksX4_wouldTake_1 13 rfl rfl)
theorem dX4_wouldTake_37 : decode cX4_wouldTake 37 = .ok (.invokevirtual 57, 3) := dk_182 0 57 (dk_at dksX4_wouldTake_1 14 rfl rfl)
theorem dX4_wouldTake_40 : decode cX4_wouldTake 40 = .ok (.ireturn, 1) := dk_172 (dk_at dksX4_wouldTake_1 17 rfl rfl)
theorem dX4_wouldTake_41 : decode cX4_wouldTake 41 = .ok (.aload_n 0, 1) := dk_42 (dk_at dksX4_wouldTake_1 18 rfl rfl)
theorem dX4_wouldTake_42 : decode cX4_wouldTake 42 = .ok (.getfield 7, 3) := dk_180 0 7 (dk_at dksX4_wouldTake_1 19 rfl rfl)
theorem dX4_wouldTake_45 : decode cX4_wouldTake 45 = .ok (.iconst 0, 1) := dk_3 (dk_at dksX4_wouldTake_1 22 rfl rfl)
theorem dX4_wouldTake_46 : decode cX4_wouldTake 46 = .ok (.aload_n 0, 1) := dk_42 (dk_at dksX4_wouldTake_1 23 rfl rfl)
theorem dX4_wouldTake_47 : decode cX4_wouldTake 47 = .ok (.getfield 22, 3) := dk_180 0 22 (dk_at dksX4_wouldTake_2 0 rfl rfl)
theorem dX4_wouldTake_50 : decode cX4_wouldTake 50 = .ok (.iconst 0, 1) := dk_3 (dk_at dksX4_wouldTake_2 3 rfl rfl)
theorem dX4_wouldTake_51 : decode cX4_wouldTake 51 = .ok (.invokestatic 61, 3) := dk_184 0 61 (dk_at dksX4_wouldTake_2 4 rfl rfl)
theorem dX4_wouldTake_54 : decode cX4_wouldTake 54 = .ok (.aload_n 0, 1) := dk_42 (dk_at dksX4_wouldTake_2 7 rfl rfl)
theorem dX4_wouldTake_55 : decode cX4_wouldTake 55 = .ok (.iload_n 2, 1) := dk_28 (dk_at dksX4_wouldTake_2 8 rfl rfl)
theorem dX4_wouldTake_56 : decode cX4_wouldTake 56 = .ok (.invokevirtual 116, 3) := dk_182 0 116 (dk_at dksX4_wouldTake_2 9 rfl rfl)
theorem dX4_wouldTake_59 : decode cX4_wouldTake 59 = .ok (.istore_n 3, 1) := dk_62 (dk_at dksX4_wouldTake_2 12 rfl rfl)
theorem dX4_wouldTake_60 : decode cX4_wouldTake 60 = .ok (.aload_n 0, 1) := dk_42 (dk_at dksX4_wouldTake_2 13 rfl rfl)
theorem dX4_wouldTake_61 : decode cX4_wouldTake 61 = .ok (.getfield 7, 3) := dk_180 0 7 (dk_at dksX4_wouldTake_2 14 rfl rfl)
theorem dX4_wouldTake_64 : decode cX4_wouldTake 64 = .ok (.iconst 0, 1) := dk_3 (dk_at dksX4_wouldTake_2 17 rfl rfl)
theorem dX4_wouldTake_65 : decode cX4_wouldTake 65 = .ok (.iaload, 1) := dk_46 (dk_at dksX4_wouldTake_2 18 rfl rfl)
theorem dX4_wouldTake_66 : decode cX4_wouldTake 66 = .ok (.aload_n 0, 1) := dk_42 (dk_at dksX4_wouldTake_2 19 rfl rfl)
theorem dX4_wouldTake_67 : decode cX4_wouldTake 67 = .ok (.getfield 22, 3) := dk_180 0 22 (dk_at dksX4_wouldTake_2 20 rfl rfl)
theorem dX4_wouldTake_70 : decode cX4_wouldTake 70 = .ok (.iconst 0, 1) := dk_3 (dk_at dksX4_wouldTake_2 23 rfl rfl)
theorem dX4_wouldTake_71 : decode cX4_wouldTake 71 = .ok (.iaload, 1) := dk_46 (dk_at dksX4_wouldTake_3 0 rfl rfl)
theorem dX4_wouldTake_72 : decode cX4_wouldTake 72 = .ok (.isub, 1) := dk_100 (dk_at dksX4_wouldTake_3 1 rfl rfl)
theorem dX4_wouldTake_73 : decode cX4_wouldTake 73 = .ok (.istore 4, 2) := dk_54 4 (dk_at dksX4_wouldTake_3 2 rfl rfl)
theorem dX4_wouldTake_75 : decode cX4_wouldTake 75 = .ok (.aload_n 0, 1) := dk_42 (dk_at dksX4_wouldTake_3 4 rfl rfl)
theorem dX4_wouldTake_76 : decode cX4_wouldTake 76 = .ok (.getfield 22, 3) := dk_180 0 22 (dk_at dksX4_wouldTake_3 5 rfl rfl)
theorem dX4_wouldTake_79 : decode cX4_wouldTake 79 = .ok (.iconst 0, 1) := dk_3 (dk_at dksX4_wouldTake_3 8 rfl rfl)
theorem dX4_wouldTake_80 : decode cX4_wouldTake 80 = .ok (.aload_n 0, 1) := dk_42 (dk_at dksX4_wouldTake_3 9 rfl rfl)
theorem dX4_wouldTake_81 : decode cX4_wouldTake 81 = .ok (.getfield 7, 3) := dk_180 0 7 (dk_at dksX4_wouldTake_3 10 rfl rfl)
theorem dX4_wouldTake_84 : decode cX4_wouldTake 84 = .ok (.iconst 0, 1) := dk_3 (dk_at dksX4_wouldTake_3 13 rfl rfl)
theorem dX4_wouldTake_85 : decode cX4_wouldTake 85 = .ok (.invokestatic 61, 3) := dk_184 0 61 (dk_at dksX4_wouldTake_3 14 rfl rfl)
theorem dX4_wouldTake_88 : decode cX4_wouldTake 88 = .ok (.aload_n 0, 1) := dk_42 (dk_at dksX4_wouldTake_3 17 rfl rfl)
theorem dX4_wouldTake_89 : decode cX4_wouldTake 89 = .ok (.iload 4, 2) := dk_21 4 (dk_at dksX4_wouldTake_3 18 rfl rfl)
theorem dX4_wouldTake_91 : decode cX4_wouldTake 91 = .ok (.invokevirtual 119, 3) := dk_182 0 119 (dk_at dksX4_wouldTake_3 20 rfl rfl)
theorem dX4_wouldTake_94 : decode cX4_wouldTake 94 = .ok (.ireturn, 1) := dk_172 (dk_at dksX4_wouldTake_3 23 rfl rfl)
abbrev cX4_causeOf : ByteArray := prog_15_method_54_code
def yX4_causeOf : MethodName := ⟨RX4, "causeOf", "(I)I"⟩
def dkwX4_causeOf_1 : List UInt8 := [27, 182, 0, 94, 182, 0, 119, 167, 0, 8, 42, 5, 182, 0, 57, 172]
abbrev dktX4_causeOf_1 : List UInt8 := dkwX4_causeOf_1 ++ []
def dkwX4_causeOf_0 : List UInt8 := [27, 184, 0, 140, 154, 0, 9, 42, 4, 182, 0, 57, 172, 42, 27, 182, 0, 97, 2, 160, 0, 15, 42, 42]
abbrev dktX4_causeOf_0 : List UInt8 := dkwX4_causeOf_0 ++ dktX4_causeOf_1
theorem dksX4_causeOf_0 : cX4_causeOf.data.toList.drop 0 = dktX4_causeOf_0 := by decide +kernel
theorem dksX4_causeOf_1 : cX4_causeOf.data.toList.drop 24 = dktX4_causeOf_1 := dk_seg dksX4_causeOf_0 24 rfl rfl
theorem dX4_causeOf_0 : decode cX4_causeOf 0 = .ok (.iload_n 1, 1) := dk_27 (dk_at dksX4_causeOf_0 0 rfl rfl)
theorem dX4_causeOf_1 : decode cX4_causeOf 1 = .ok (.invokestatic 140, 3) := dk_184 0 140 (dk_at dksX4_causeOf_0 1 rfl rfl)
theorem dX4_causeOf_4 : decode cX4_causeOf 4 = .ok (.ifCond .ne 9, 3) := dk_154 0 9 (dk_at dksX4_causeOf_0 4 rfl rfl)
theorem dX4_causeOf_7 : decode cX4_causeOf 7 = .ok (.aload_n 0, 1) := dk_42 (dk_at dksX4_causeOf_0 7 rfl rfl)
theorem dX4_causeOf_8 : decode cX4_causeOf 8 = .ok (.iconst 1, 1) := dk_4 (dk_at dksX4_causeOf_0 8 rfl rfl)
theorem dX4_causeOf_9 : decode cX4_causeOf 9 = .ok (.invokevirtual 57, 3) := dk_182 0 57 (dk_at dksX4_causeOf_0 9 rfl rfl)
theorem dX4_causeOf_12 : decode cX4_causeOf 12 = .ok (.ireturn, 1) := dk_172 (dk_at dksX4_causeOf_0 12 rfl rfl)
theorem dX4_causeOf_13 : decode cX4_causeOf 13 = .ok (.aload_n 0, 1) := dk_42 (dk_at dksX4_causeOf_0 13 rfl rfl)
theorem dX4_causeOf_14 : decode cX4_causeOf 14 = .ok (.iload_n 1, 1) := dk_27 (dk_at dksX4_causeOf_0 14 rfl rfl)
theorem dX4_causeOf_15 : decode cX4_causeOf 15 = .ok (.invokevirtual 97, 3) := dk_182 0 97 (dk_at dksX4_causeOf_0 15 rfl rfl)
theorem dX4_causeOf_18 : decode cX4_causeOf 18 = .ok (.iconst (-1), 1) := dk_2 (dk_at dksX4_causeOf_0 18 rfl rfl)
theorem dX4_causeOf_19 : decode cX4_causeOf 19 = .ok (.if_icmp .ne 15, 3) := dk_160 0 15 (dk_at dksX4_causeOf_0 19 rfl rfl)
theorem dX4_causeOf_22 : decode cX4_causeOf 22 = .ok (.aload_n 0, 1) := dk_42 (dk_at dksX4_causeOf_0 22 rfl rfl)
theorem dX4_causeOf_23 : decode cX4_causeOf 23 = .ok (.aload_n 0, 1) := dk_42 (dk_at dksX4_causeOf_0 23 rfl rfl)
theorem dX4_causeOf_24 : decode cX4_causeOf 24 = .ok (.iload_n 1, 1) := dk_27 (dk_at dksX4_causeOf_1 0 rfl rfl)
theorem dX4_causeOf_25 : decode cX4_causeOf 25 = .ok (.invokevirtual 94, 3) := dk_182 0 94 (dk_at dksX4_causeOf_1 1 rfl rfl)
theorem dX4_causeOf_28 : decode cX4_causeOf 28 = .ok (.invokevirtual 119, 3) := dk_182 0 119 (dk_at dksX4_causeOf_1 4 rfl rfl)
theorem dX4_causeOf_31 : decode cX4_causeOf 31 = .ok (.goto 8, 3) := dk_167 0 8 (dk_at dksX4_causeOf_1 7 rfl rfl)
theorem dX4_causeOf_34 : decode cX4_causeOf 34 = .ok (.aload_n 0, 1) := dk_42 (dk_at dksX4_causeOf_1 10 rfl rfl)
theorem dX4_causeOf_35 : decode cX4_causeOf 35 = .ok (.iconst 2, 1) := dk_5 (dk_at dksX4_causeOf_1 11 rfl rfl)
theorem dX4_causeOf_36 : decode cX4_causeOf 36 = .ok (.invokevirtual 57, 3) := dk_182 0 57 (dk_at dksX4_causeOf_1 12 rfl rfl)
theorem dX4_causeOf_39 : decode cX4_causeOf 39 = .ok (.ireturn, 1) := dk_172 (dk_at dksX4_causeOf_1 15 rfl rfl)
abbrev cX4_freeIn : ByteArray := prog_15_method_55_code
def yX4_freeIn : MethodName := ⟨RX4, "freeIn", "(I)I"⟩
def dkwX4_freeIn_2 : List UInt8 := [46, 100, 167, 0, 4, 3, 182, 0, 119, 172]
abbrev dktX4_freeIn_2 : List UInt8 := dkwX4_freeIn_2 ++ []
def dkwX4_freeIn_1 : List UInt8 := [46, 42, 180, 0, 7, 3, 46, 164, 0, 22, 42, 180, 0, 7, 16, 69, 27, 96, 46, 42, 180, 0, 7, 3]
abbrev dktX4_freeIn_1 : List UInt8 := dkwX4_freeIn_1 ++ dktX4_freeIn_2
def dkwX4_freeIn_0 : List UInt8 := [27, 3, 6, 184, 0, 68, 154, 0, 9, 42, 4, 182, 0, 57, 172, 42, 42, 180, 0, 7, 16, 69, 27, 96]
abbrev dktX4_freeIn_0 : List UInt8 := dkwX4_freeIn_0 ++ dktX4_freeIn_1
theorem dksX4_freeIn_0 : cX4_freeIn.data.toList.drop 0 = dktX4_freeIn_0 := by decide +kernel
theorem dksX4_freeIn_1 : cX4_freeIn.data.toList.drop 24 = dktX4_freeIn_1 := dk_seg dksX4_freeIn_0 24 rfl rfl
theorem dksX4_freeIn_2 : cX4_freeIn.data.toList.drop 48 = dktX4_freeIn_2 := dk_seg dksX4_freeIn_1 24 rfl rfl
theorem dX4_freeIn_0 : decode cX4_freeIn 0 = .ok (.iload_n 1, 1) := dk_27 (dk_at dksX4_freeIn_0 0 rfl rfl)
theorem dX4_freeIn_1 : decode cX4_freeIn 1 = .ok (.iconst 0, 1) := dk_3 (dk_at dksX4_freeIn_0 1 rfl rfl)
theorem dX4_freeIn_2 : decode cX4_freeIn 2 = .ok (.iconst 3, 1) := dk_6 (dk_at dksX4_freeIn_0 2 rfl rfl)
theorem dX4_freeIn_3 : decode cX4_freeIn 3 = .ok (.invokestatic 68, 3) := dk_184 0 68 (dk_at dksX4_freeIn_0 3 rfl rfl)
theorem dX4_freeIn_6 : decode cX4_freeIn 6 = .ok (.ifCond .ne 9, 3) := dk_154 0 9 (dk_at dksX4_freeIn_0 6 rfl rfl)
theorem dX4_freeIn_9 : decode cX4_freeIn 9 = .ok (.aload_n 0, 1) := dk_42 (dk_at dksX4_freeIn_0 9 rfl rfl)
theorem dX4_freeIn_10 : decode cX4_freeIn 10 = .ok (.iconst 1, 1) := dk_4 (dk_at dksX4_freeIn_0 10 rfl rfl)
theorem dX4_freeIn_11 : decode cX4_freeIn 11 = .ok (.invokevirtual 57, 3) := dk_182 0 57 (dk_at dksX4_freeIn_0 11 rfl rfl)
theorem dX4_freeIn_14 : decode cX4_freeIn 14 = .ok (.ireturn, 1) := dk_172 (dk_at dksX4_freeIn_0 14 rfl rfl)
theorem dX4_freeIn_15 : decode cX4_freeIn 15 = .ok (.aload_n 0, 1) := dk_42 (dk_at dksX4_freeIn_0 15 rfl rfl)
theorem dX4_freeIn_16 : decode cX4_freeIn 16 = .ok (.aload_n 0, 1) := dk_42 (dk_at dksX4_freeIn_0 16 rfl rfl)
theorem dX4_freeIn_17 : decode cX4_freeIn 17 = .ok (.getfield 7, 3) := dk_180 0 7 (dk_at dksX4_freeIn_0 17 rfl rfl)
theorem dX4_freeIn_20 : decode cX4_freeIn 20 = .ok (.bipush 69, 2) := dk_16 69 (dk_at dksX4_freeIn_0 20 rfl rfl)
theorem dX4_freeIn_22 : decode cX4_freeIn 22 = .ok (.iload_n 1, 1) := dk_27 (dk_at dksX4_freeIn_0 22 rfl rfl)
theorem dX4_freeIn_23 : decode cX4_freeIn 23 = .ok (.iadd, 1) := dk_96 (dk_at dksX4_freeIn_0 23 rfl rfl)
theorem dX4_freeIn_24 : decode cX4_freeIn 24 = .ok (.iaload, 1) := dk_46 (dk_at dksX4_freeIn_1 0 rfl rfl)
theorem dX4_freeIn_25 : decode cX4_freeIn 25 = .ok (.aload_n 0, 1) := dk_42 (dk_at dksX4_freeIn_1 1 rfl rfl)
theorem dX4_freeIn_26 : decode cX4_freeIn 26 = .ok (.getfield 7, 3) := dk_180 0 7 (dk_at dksX4_freeIn_1 2 rfl rfl)
theorem dX4_freeIn_29 : decode cX4_freeIn 29 = .ok (.iconst 0, 1) := dk_3 (dk_at dksX4_freeIn_1 5 rfl rfl)
theorem dX4_freeIn_30 : decode cX4_freeIn 30 = .ok (.iaload, 1) := dk_46 (dk_at dksX4_freeIn_1 6 rfl rfl)
theorem dX4_freeIn_31 : decode cX4_freeIn 31 = .ok (.if_icmp .le 22, 3) := dk_164 0 22 (dk_at dksX4_freeIn_1 7 rfl rfl)
theorem dX4_freeIn_34 : decode cX4_freeIn 34 = .ok (.aload_n 0, 1) := dk_42 (dk_at dksX4_freeIn_1 10 rfl rfl)
theorem dX4_freeIn_35 : decode cX4_freeIn 35 = .ok (.getfield 7, 3) := dk_180 0 7 (dk_at dksX4_freeIn_1 11 rfl rfl)
theorem dX4_freeIn_38 : decode cX4_freeIn 38 = .ok (.bipush 69, 2) := dk_16 69 (dk_at dksX4_freeIn_1 14 rfl rfl)
theorem dX4_freeIn_40 : decode cX4_freeIn 40 = .ok (.iload_n 1, 1) := dk_27 (dk_at dksX4_freeIn_1 16 rfl rfl)
theorem dX4_freeIn_41 : decode cX4_freeIn 41 = .ok (.iadd, 1) := dk_96 (dk_at dksX4_freeIn_1 17 rfl rfl)
theorem dX4_freeIn_42 : decode cX4_freeIn 42 = .ok (.iaload, 1) := dk_46 (dk_at dksX4_freeIn_1 18 rfl rfl)
theorem dX4_freeIn_43 : decode cX4_freeIn 43 = .ok (.aload_n 0, 1) := dk_42 (dk_at dksX4_freeIn_1 19 rfl rfl)
theorem dX4_freeIn_44 : decode cX4_freeIn 44 = .ok (.getfield 7, 3) := dk_180 0 7 (dk_at dksX4_freeIn_1 20 rfl rfl)
theorem dX4_freeIn_47 : decode cX4_freeIn 47 = .ok (.iconst 0, 1) := dk_3 (dk_at dksX4_freeIn_1 23 rfl rfl)
theorem dX4_freeIn_48 : decode cX4_freeIn 48 = .ok (.iaload, 1) := dk_46 (dk_at dksX4_freeIn_2 0 rfl rfl)
theorem dX4_freeIn_49 : decode cX4_freeIn 49 = .ok (.isub, 1) := dk_100 (dk_at dksX4_freeIn_2 1 rfl rfl)
theorem dX4_freeIn_50 : decode cX4_freeIn 50 = .ok (.goto 4, 3) := dk_167 0 4 (dk_at dksX4_freeIn_2 2 rfl rfl)
theorem dX4_freeIn_53 : decode cX4_freeIn 53 = .ok (.iconst 0, 1) := dk_3 (dk_at dksX4_freeIn_2 5 rfl rfl)
theorem dX4_freeIn_54 : decode cX4_freeIn 54 = .ok (.invokevirtual 119, 3) := dk_182 0 119 (dk_at dksX4_freeIn_2 6 rfl rfl)
theorem dX4_freeIn_57 : decode cX4_freeIn 57 = .ok (.ireturn, 1) := dk_172 (dk_at dksX4_freeIn_2 9 rfl rfl)
abbrev cX4_latest : ByteArray := prog_15_method_56_code
def yX4_latest : MethodName := ⟨RX4, "latest", "(I)I"⟩
def dkwX4_latest_1 : List UInt8 := [17, 0, 235, 27, 96, 46, 182, 0, 119, 167, 0, 8, 42, 4, 182, 0, 57, 172]
abbrev dktX4_latest_1 : List UInt8 := dkwX4_latest_1 ++ []
def dkwX4_latest_0 : List UInt8 := [27, 3, 42, 180, 0, 7, 17, 0, 234, 46, 4, 100, 184, 0, 68, 153, 0, 20, 42, 42, 180, 0, 7]
abbrev dktX4_latest_0 : List UInt8 := dkwX4_latest_0 ++ dktX4_latest_1
theorem dksX4_latest_0 : cX4_latest.data.toList.drop 0 = dktX4_latest_0 := by decide +kernel
theorem dksX4_latest_1 : cX4_latest.data.toList.drop 23 = dktX4_latest_1 := dk_seg dksX4_latest_0 23 rfl rfl
theorem dX4_latest_0 : decode cX4_latest 0 = .ok (.iload_n 1, 1) := dk_27 (dk_at dksX4_latest_0 0 rfl rfl)
theorem dX4_latest_1 : decode cX4_latest 1 = .ok (.iconst 0, 1) := dk_3 (dk_at dksX4_latest_0 1 rfl rfl)
theorem dX4_latest_2 : decode cX4_latest 2 = .ok (.aload_n 0, 1) := dk_42 (dk_at dksX4_latest_0 2 rfl rfl)
theorem dX4_latest_3 : decode cX4_latest 3 = .ok (.getfield 7, 3) := dk_180 0 7 (dk_at dksX4_latest_0 3 rfl rfl)
theorem dX4_latest_6 : decode cX4_latest 6 = .ok (.sipush 234, 3) := dk_17 0 234 (dk_at dksX4_latest_0 6 rfl rfl)
theorem dX4_latest_9 : decode cX4_latest 9 = .ok (.iaload, 1) := dk_46 (dk_at dksX4_latest_0 9 rfl rfl)
theorem dX4_latest_10 : decode cX4_latest 10 = .ok (.iconst 1, 1) := dk_4 (dk_at dksX4_latest_0 10 rfl rfl)
theorem dX4_latest_11 : decode cX4_latest 11 = .ok (.isub, 1) := dk_100 (dk_at dksX4_latest_0 11 rfl rfl)
theorem dX4_latest_12 : decode cX4_latest 12 = .ok (.invokestatic 68, 3) := dk_184 0 68 (dk_at dksX4_latest_0 12 rfl rfl)
theorem dX4_latest_15 : decode cX4_latest 15 = .ok (.ifCond .eq 20, 3) := dk_153 0 20 (dk_at dksX4_latest_0 15 rfl rfl)
theorem dX4_latest_18 : decode cX4_latest 18 = .ok (.aload_n 0, 1) := dk_42 (dk_at dksX4_latest_0 18 rfl rfl)
theorem dX4_latest_19 : decode cX4_latest 19 = .ok (.aload_n 0, 1) := dk_42 (dk_at dksX4_latest_0 19 rfl rfl)
theorem dX4_latest_20 : decode cX4_latest 20 = .ok (.getfield 7, 3) := dk_180 0 7 (dk_at dksX4_latest_0 20 rfl rfl)
theorem dX4_latest_23 : decode cX4_latest 23 = .ok (.sipush 235, 3) := dk_17 0 235 (dk_at dksX4_latest_1 0 rfl rfl)
theorem dX4_latest_26 : decode cX4_latest 26 = .ok (.iload_n 1, 1) := dk_27 (dk_at dksX4_latest_1 3 rfl rfl)
theorem dX4_latest_27 : decode cX4_latest 27 = .ok (.iadd, 1) := dk_96 (dk_at dksX4_latest_1 4 rfl rfl)
theorem dX4_latest_28 : decode cX4_latest 28 = .ok (.iaload, 1) := dk_46 (dk_at dksX4_latest_1 5 rfl rfl)
theorem dX4_latest_29 : decode cX4_latest 29 = .ok (.invokevirtual 119, 3) := dk_182 0 119 (dk_at dksX4_latest_1 6 rfl rfl)
theorem dX4_latest_32 : decode cX4_latest 32 = .ok (.goto 8, 3) := dk_167 0 8 (dk_at dksX4_latest_1 9 rfl rfl)
theorem dX4_latest_35 : decode cX4_latest 35 = .ok (.aload_n 0, 1) := dk_42 (dk_at dksX4_latest_1 12 rfl rfl)
theorem dX4_latest_36 : decode cX4_latest 36 = .ok (.iconst 1, 1) := dk_4 (dk_at dksX4_latest_1 13 rfl rfl)
theorem dX4_latest_37 : decode cX4_latest 37 = .ok (.invokevirtual 57, 3) := dk_182 0 57 (dk_at dksX4_latest_1 14 rfl rfl)
theorem dX4_latest_40 : decode cX4_latest 40 = .ok (.ireturn, 1) := dk_172 (dk_at dksX4_latest_1 17 rfl rfl)
abbrev cX4_ranked : ByteArray := prog_15_method_57_code
def yX4_ranked : MethodName := ⟨RX4, "ranked", "(I)I"⟩
def dkwX4_ranked_5 : List UInt8 := [132, 2, 1, 167, 255, 136, 42, 4, 182, 0, 57, 172]
abbrev dktX4_ranked_5 : List UInt8 := dkwX4_ranked_5 ++ []
def dkwX4_ranked_4 : List UInt8 := [4, 167, 0, 4, 3, 96, 62, 132, 4, 1, 167, 255, 164, 29, 27, 160, 0, 9, 42, 28, 182, 0, 119, 172]
abbrev dktX4_ranked_4 : List UInt8 := dkwX4_ranked_4 ++ dktX4_ranked_5
def dkwX4_ranked_3 : List UInt8 := [157, 0, 24, 21, 5, 154, 0, 23, 21, 6, 157, 0, 14, 21, 6, 154, 0, 13, 21, 4, 28, 162, 0, 7]
abbrev dktX4_ranked_3 : List UInt8 := dkwX4_ranked_3 ++ dktX4_ranked_4
def dkwX4_ranked_2 : List UInt8 := [17, 1, 11, 28, 96, 46, 42, 180, 0, 7, 17, 1, 11, 21, 4, 96, 46, 100, 54, 6, 29, 21, 5]
abbrev dktX4_ranked_2 : List UInt8 := dkwX4_ranked_2 ++ dktX4_ranked_3
def dkwX4_ranked_1 : List UInt8 := [17, 0, 251, 21, 4, 96, 46, 42, 180, 0, 7, 17, 0, 251, 28, 96, 46, 100, 54, 5, 42, 180, 0, 7]
abbrev dktX4_ranked_1 : List UInt8 := dkwX4_ranked_1 ++ dktX4_ranked_2
def dkwX4_ranked_0 : List UInt8 := [3, 61, 28, 16, 16, 162, 0, 120, 3, 62, 3, 54, 4, 21, 4, 16, 16, 162, 0, 91, 42, 180, 0, 7]
abbrev dktX4_ranked_0 : List UInt8 := dkwX4_ranked_0 ++ dktX4_ranked_1
theorem dksX4_ranked_0 : cX4_ranked.data.toList.drop 0 = dktX4_ranked_0 := by decide +kernel
theorem dksX4_ranked_1 : cX4_ranked.data.toList.drop 24 = dktX4_ranked_1 := dk_seg dksX4_ranked_0 24 rfl rfl
theorem dksX4_ranked_2 : cX4_ranked.data.toList.drop 48 = dktX4_ranked_2 := dk_seg dksX4_ranked_1 24 rfl rfl
theorem dksX4_ranked_3 : cX4_ranked.data.toList.drop 71 = dktX4_ranked_3 := dk_seg dksX4_ranked_2 23 rfl rfl
theorem dksX4_ranked_4 : cX4_ranked.data.toList.drop 95 = dktX4_ranked_4 := dk_seg dksX4_ranked_3 24 rfl rfl
theorem dksX4_ranked_5 : cX4_ranked.data.toList.drop 119 = dktX4_ranked_5 := dk_seg dksX4_ranked_4 24 rfl rfl
theorem dX4_ranked_0 : decode cX4_ranked 0 = .ok (.iconst 0, 1) := dk_3 (dk_at dksX4_ranked_0 0 rfl rfl)
theorem dX4_ranked_1 : decode cX4_ranked 1 = .ok (.istore_n 2, 1) := dk_61 (dk_at dksX4_ranked_0 1 rfl rfl)
theorem dX4_ranked_2 : decode cX4_ranked 2 = .ok (.iload_n 2, 1) := dk_28 (dk_at dksX4_ranked_0 2 rfl rfl)
theorem dX4_ranked_3 : decode cX4_ranked 3 = .ok (.bipush 16, 2) := dk_16 16 (dk_at dksX4_ranked_0 3 rfl rfl)
theorem dX4_ranked_5 : decode cX4_ranked 5 = .ok (.if_icmp .ge 120, 3) := dk_162 0 120 (dk_at dksX4_ranked_0 5 rfl rfl)
theorem dX4_ranked_8 : decode cX4_ranked 8 = .ok (.iconst 0, 1) := dk_3 (dk_at dksX4_ranked_0 8 rfl rfl)
theorem dX4_ranked_9 : decode cX4_ranked 9 = .ok (.istore_n 3, 1) := dk_62 (dk_at dksX4_ranked_0 9 rfl rfl)
theorem dX4_ranked_10 : decode cX4_ranked 10 = .ok (.iconst 0, 1) := dk_3 (dk_at dksX4_ranked_0 10 rfl rfl)
theorem dX4_ranked_11 : decode cX4_ranked 11 = .ok (.istore 4, 2) := dk_54 4 (dk_at dksX4_ranked_0 11 rfl rfl)
theorem dX4_ranked_13 : decode cX4_ranked 13 = .ok (.iload 4, 2) := dk_21 4 (dk_at dksX4_ranked_0 13 rfl rfl)
theorem dX4_ranked_15 : decode cX4_ranked 15 = .ok (.bipush 16, 2) := dk_16 16 (dk_at dksX4_ranked_0 15 rfl rfl)
theorem dX4_ranked_17 : decode cX4_ranked 17 = .ok (.if_icmp .ge 91, 3) := dk_162 0 91 (dk_at dksX4_ranked_0 17 rfl rfl)
theorem dX4_ranked_20 : decode cX4_ranked 20 = .ok (.aload_n 0, 1) := dk_42 (dk_at dksX4_ranked_0 20 rfl rfl)
theorem dX4_ranked_21 : decode cX4_ranked 21 = .ok (.getfield 7, 3) := dk_180 0 7 (dk_at dksX4_ranked_0 21 rfl rfl)
theorem dX4_ranked_24 : decode cX4_ranked 24 = .ok (.sipush 251, 3) := dk_17 0 251 (dk_at dksX4_ranked_1 0 rfl rfl)
theorem dX4_ranked_27 : decode cX4_ranked 27 = .ok (.iload 4, 2) := dk_21 4 (dk_at dksX4_ranked_1 3 rfl rfl)
theorem dX4_ranked_29 : decode cX4_ranked 29 = .ok (.iadd, 1) := dk_96 (dk_at dksX4_ranked_1 5 rfl rfl)
theorem dX4_ranked_30 : decode cX4_ranked 30 = .ok (.iaload, 1) := dk_46 (dk_at dksX4_ranked_1 6 rfl rfl)
theorem dX4_ranked_31 : decode cX4_ranked 31 = .ok (.aload_n 0, 1) := dk_42 (dk_at dksX4_ranked_1 7 rfl rfl)
theorem dX4_ranked_32 : decode cX4_ranked 32 = .ok (.getfield 7, 3) := dk_180 0 7 (dk_at dksX4_ranked_1 8 rfl rfl)
theorem dX4_ranked_35 : decode cX4_ranked 35 = .ok (.sipush 251, 3) := dk_17 0 251 (dk_at dksX4_ranked_1 11 rfl rfl)
theorem dX4_ranked_38 : decode cX4_ranked 38 = .ok (.iload_n 2, 1) := dk_28 (dk_at dksX4_ranked_1 14 rfl rfl)
theorem dX4_ranked_39 : decode cX4_ranked 39 = .ok (.iadd, 1) := dk_96 (dk_at dksX4_ranked_1 15 rfl rfl)
theorem dX4_ranked_40 : decode cX4_ranked 40 = .ok (.iaload, 1) := dk_46 (dk_at dksX4_ranked_1 16 rfl rfl)
theorem dX4_ranked_41 : decode cX4_ranked 41 = .ok (.isub, 1) := dk_100 (dk_at dksX4_ranked_1 17 rfl rfl)
theorem dX4_ranked_42 : decode cX4_ranked 42 = .ok (.istore 5, 2) := dk_54 5 (dk_at dksX4_ranked_1 18 rfl rfl)
theorem dX4_ranked_44 : decode cX4_ranked 44 = .ok (.aload_n 0, 1) := dk_42 (dk_at dksX4_ranked_1 20 rfl rfl)
theorem dX4_ranked_45 : decode cX4_ranked 45 = .ok (.getfield 7, 3) := dk_180 0 7 (dk_at dksX4_ranked_1 21 rfl rfl)
theorem dX4_ranked_48 : decode cX4_ranked 48 = .ok (.sipush 267, 3) := dk_17 1 11 (dk_at dksX4_ranked_2 0 rfl rfl)
theorem dX4_ranked_51 : decode cX4_ranked 51 = .ok (.iload_n 2, 1) := dk_28 (dk_at dksX4_ranked_2 3 rfl rfl)
theorem dX4_ranked_52 : decode cX4_ranked 52 = .ok (.iadd, 1) := dk_96 (dk_at dksX4_ranked_2 4 rfl rfl)
theorem dX4_ranked_53 : decode cX4_ranked 53 = .ok (.iaload, 1) := dk_46 (dk_at dksX4_ranked_2 5 rfl rfl)
theorem dX4_ranked_54 : decode cX4_ranked 54 = .ok (.aload_n 0, 1) := dk_42 (dk_at dksX4_ranked_2 6 rfl rfl)
theorem dX4_ranked_55 : decode cX4_ranked 55 = .ok (.getfield 7, 3) := dk_180 0 7 (dk_at dksX4_ranked_2 7 rfl rfl)
theorem dX4_ranked_58 : decode cX4_ranked 58 = .ok (.sipush 267, 3) := dk_17 1 11 (dk_at dksX4_ranked_2 10 rfl rfl)
theorem dX4_ranked_61 : decode cX4_ranked 61 = .ok (.iload 4, 2) := dk_21 4 (dk_at dksX4_ranked_2 13 rfl rfl)
theorem dX4_ranked_63 : decode cX4_ranked 63 = .ok (.iadd, 1) := dk_96 (dk_at dksX4_ranked_2 15 rfl rfl)
theorem dX4_ranked_64 : decode cX4_ranked 64 = .ok (.iaload, 1) := dk_46 (dk_at dksX4_ranked_2 16 rfl rfl)
theorem dX4_ranked_65 : decode cX4_ranked 65 = .ok (.isub, 1) := dk_100 (dk_at dksX4_ranked_2 17 rfl rfl)
theorem dX4_ranked_66 : decode cX4_ranked 66 = .ok (.istore 6, 2) := dk_54 6 (dk_at dksX4_ranked_2 18 rfl rfl)
theorem dX4_ranked_68 : decode cX4_ranked 68 = .ok (.iload_n 3, 1) := dk_29 (dk_at dksX4_ranked_2 20 rfl rfl)
theorem dX4_ranked_69 : decode cX4_ranked 69 = .ok (.iload 5, 2) := dk_21 5 (dk_at dksX4_ranked_2 21 rfl rfl)
theorem dX4_ranked_71 : decode cX4_ranked 71 = .ok (.ifCond .gt 24, 3) := dk_157 0 24 (dk_at dksX4_ranked_3 0 rfl rfl)
theorem dX4_ranked_74 : decode cX4_ranked 74 = .ok (.iload 5, 2) := dk_21 5 (dk_at dksX4_ranked_3 3 rfl rfl)
theorem dX4_ranked_76 : decode cX4_ranked 76 = .ok (.ifCond .ne 23, 3) := dk_154 0 23 (dk_at dksX4_ranked_3 5 rfl rfl)
theorem dX4_ranked_79 : decode cX4_ranked 79 = .ok (.iload 6, 2) := dk_21 6 (dk_at dksX4_ranked_3 8 rfl rfl)
theorem dX4_ranked_81 : decode cX4_ranked 81 = .ok (.ifCond .gt 14, 3) := dk_157 0 14 (dk_at dksX4_ranked_3 10 rfl rfl)
theorem dX4_ranked_84 : decode cX4_ranked 84 = .ok (.iload 6, 2) := dk_21 6 (dk_at dksX4_ranked_3 13 rfl rfl)
theorem dX4_ranked_86 : decode cX4_ranked 86 = .ok (.ifCond .ne 13, 3) := dk_154 0 13 (dk_at dksX4_ranked_3 15 rfl rfl)
theorem dX4_ranked_89 : decode cX4_ranked 89 = .ok (.iload 4, 2) := dk_21 4 (dk_at dksX4_ranked_3 18 rfl rfl)
theorem dX4_ranked_91 : decode cX4_ranked 91 = .ok (.iload_n 2, 1) := dk_28 (dk_at dksX4_ranked_3 20 rfl rfl)
theorem dX4_ranked_92 : decode cX4_ranked 92 = .ok (.if_icmp .ge 7, 3) := dk_162 0 7 (dk_at dksX4_ranked_3 21 rfl rfl)
theorem dX4_ranked_95 : decode cX4_ranked 95 = .ok (.iconst 1, 1) := dk_4 (dk_at dksX4_ranked_4 0 rfl rfl)
theorem dX4_ranked_96 : decode cX4_ranked 96 = .ok (.goto 4, 3) := dk_167 0 4 (dk_at dksX4_ranked_4 1 rfl rfl)
theorem dX4_ranked_99 : decode cX4_ranked 99 = .ok (.iconst 0, 1) := dk_3 (dk_at dksX4_ranked_4 4 rfl rfl)
theorem dX4_ranked_100 : decode cX4_ranked 100 = .ok (.iadd, 1) := dk_96 (dk_at dksX4_ranked_4 5 rfl rfl)
theorem dX4_ranked_101 : decode cX4_ranked 101 = .ok (.istore_n 3, 1) := dk_62 (dk_at dksX4_ranked_4 6 rfl rfl)
theorem dX4_ranked_102 : decode cX4_ranked 102 = .ok (.iinc 4 1, 3) := dk_132 4 1 (dk_at dksX4_ranked_4 7 rfl rfl)
theorem dX4_ranked_105 : decode cX4_ranked 105 = .ok (.goto (-92), 3) := dk_167 255 164 (dk_at dksX4_ranked_4 10 rfl rfl)
theorem dX4_ranked_108 : decode cX4_ranked 108 = .ok (.iload_n 3, 1) := dk_29 (dk_at dksX4_ranked_4 13 rfl rfl)
theorem dX4_ranked_109 : decode cX4_ranked 109 = .ok (.iload_n 1, 1) := dk_27 (dk_at dksX4_ranked_4 14 rfl rfl)
theorem dX4_ranked_110 : decode cX4_ranked 110 = .ok (.if_icmp .ne 9, 3) := dk_160 0 9 (dk_at dksX4_ranked_4 15 rfl rfl)
theorem dX4_ranked_113 : decode cX4_ranked 113 = .ok (.aload_n 0, 1) := dk_42 (dk_at dksX4_ranked_4 18 rfl rfl)
theorem dX4_ranked_114 : decode cX4_ranked 114 = .ok (.iload_n 2, 1) := dk_28 (dk_at dksX4_ranked_4 19 rfl rfl)
theorem dX4_ranked_115 : decode cX4_ranked 115 = .ok (.invokevirtual 119, 3) := dk_182 0 119 (dk_at dksX4_ranked_4 20 rfl rfl)
theorem dX4_ranked_118 : decode cX4_ranked 118 = .ok (.ireturn, 1) := dk_172 (dk_at dksX4_ranked_4 23 rfl rfl)
theorem dX4_ranked_119 : decode cX4_ranked 119 = .ok (.iinc 2 1, 3) := dk_132 2 1 (dk_at dksX4_ranked_5 0 rfl rfl)
theorem dX4_ranked_122 : decode cX4_ranked 122 = .ok (.goto (-120), 3) := dk_167 255 136 (dk_at dksX4_ranked_5 3 rfl rfl)
theorem dX4_ranked_125 : decode cX4_ranked 125 = .ok (.aload_n 0, 1) := dk_42 (dk_at dksX4_ranked_5 6 rfl rfl)
theorem dX4_ranked_126 : decode cX4_ranked 126 = .ok (.iconst 1, 1) := dk_4 (dk_at dksX4_ranked_5 7 rfl rfl)
theorem dX4_ranked_127 : decode cX4_ranked 127 = .ok (.invokevirtual 57, 3) := dk_182 0 57 (dk_at dksX4_ranked_5 8 rfl rfl)
theorem dX4_ranked_130 : decode cX4_ranked 130 = .ok (.ireturn, 1) := dk_172 (dk_at dksX4_ranked_5 11 rfl rfl)
abbrev cX4_nextDirty : ByteArray := prog_15_method_58_code
def yX4_nextDirty : MethodName := ⟨RX4, "nextDirty", "(I)I"⟩
def dkwX4_nextDirty_2 : List UInt8 := [126, 4, 160, 0, 9, 42, 28, 182, 0, 119, 172, 132, 2, 1, 167, 255, 209, 42, 5, 182, 0, 57, 172]
abbrev dktX4_nextDirty_2 : List UInt8 := dkwX4_nextDirty_2 ++ []
def dkwX4_nextDirty_1 : List UInt8 := [108, 182, 0, 97, 62, 29, 2, 159, 0, 28, 42, 180, 0, 7, 16, 89, 29, 96, 46, 28, 7, 112, 122, 4]
abbrev dktX4_nextDirty_1 : List UInt8 := dkwX4_nextDirty_1 ++ dktX4_nextDirty_2
def dkwX4_nextDirty_0 : List UInt8 := [27, 184, 0, 113, 154, 0, 9, 42, 4, 182, 0, 57, 172, 27, 61, 28, 16, 64, 162, 0, 47, 42, 28, 7]
abbrev dktX4_nextDirty_0 : List UInt8 := dkwX4_nextDirty_0 ++ dktX4_nextDirty_1
theorem dksX4_nextDirty_0 : cX4_nextDirty.data.toList.drop 0 = dktX4_nextDirty_0 := by decide +kernel
theorem dksX4_nextDirty_1 : cX4_nextDirty.data.toList.drop 24 = dktX4_nextDirty_1 := dk_seg dksX4_nextDirty_0 24 rfl rfl
theorem dksX4_nextDirty_2 : cX4_nextDirty.data.toList.drop 48 = dktX4_nextDirty_2 := dk_seg dksX4_nextDirty_1 24 rfl rfl
theorem dX4_nextDirty_0 : decode cX4_nextDirty 0 = .ok (.iload_n 1, 1) := dk_27 (dk_at dksX4_nextDirty_0 0 rfl rfl)
theorem dX4_nextDirty_1 : decode cX4_nextDirty 1 = .ok (.invokestatic 113, 3) := dk_184 0 113 (dk_at dksX4_nextDirty_0 1 rfl rfl)
theorem dX4_nextDirty_4 : decode cX4_nextDirty 4 = .ok (.ifCond .ne 9, 3) := dk_154 0 9 (dk_at dksX4_nextDirty_0 4 rfl rfl)
theorem dX4_nextDirty_7 : decode cX4_nextDirty 7 = .ok (.aload_n 0, 1) := dk_42 (dk_at dksX4_nextDirty_0 7 rfl rfl)
theorem dX4_nextDirty_8 : decode cX4_nextDirty 8 = .ok (.iconst 1, 1) := dk_4 (dk_at dksX4_nextDirty_0 8 rfl rfl)
theorem dX4_nextDirty_9 : decode cX4_nextDirty 9 = .ok (.invokevirtual 57, 3) := dk_182 0 57 (dk_at dksX4_nextDirty_0 9 rfl rfl)
theorem dX4_nextDirty_12 : decode cX4_nextDirty 12 = .ok (.ireturn, 1) := dk_172 (dk_at dksX4_nextDirty_0 12 rfl rfl)
theorem dX4_nextDirty_13 : decode cX4_nextDirty 13 = .ok (.iload_n 1, 1) := dk_27 (dk_at dksX4_nextDirty_0 13 rfl rfl)
theorem dX4_nextDirty_14 : decode cX4_nextDirty 14 = .ok (.istore_n 2, 1) := dk_61 (dk_at dksX4_nextDirty_0 14 rfl rfl)
theorem dX4_nextDirty_15 : decode cX4_nextDirty 15 = .ok (.iload_n 2, 1) := dk_28 (dk_at dksX4_nextDirty_0 15 rfl rfl)
theorem dX4_nextDirty_16 : decode cX4_nextDirty 16 = .ok (.bipush 64, 2) := dk_16 64 (dk_at dksX4_nextDirty_0 16 rfl rfl)
theorem dX4_nextDirty_18 : decode cX4_nextDirty 18 = .ok (.if_icmp .ge 47, 3) := dk_162 0 47 (dk_at dksX4_nextDirty_0 18 rfl rfl)
theorem dX4_nextDirty_21 : decode cX4_nextDirty 21 = .ok (.aload_n 0, 1) := dk_42 (dk_at dksX4_nextDirty_0 21 rfl rfl)
theorem dX4_nextDirty_22 : decode cX4_nextDirty 22 = .ok (.iload_n 2, 1) := dk_28 (dk_at dksX4_nextDirty_0 22 rfl rfl)
theorem dX4_nextDirty_23 : decode cX4_nextDirty 23 = .ok (.iconst 4, 1) := dk_7 (dk_at dksX4_nextDirty_0 23 rfl rfl)
theorem dX4_nextDirty_24 : decode cX4_nextDirty 24 = .ok (.idiv, 1) := dk_108 (dk_at dksX4_nextDirty_1 0 rfl rfl)
theorem dX4_nextDirty_25 : decode cX4_nextDirty 25 = .ok (.invokevirtual 97, 3) := dk_182 0 97 (dk_at dksX4_nextDirty_1 1 rfl rfl)
theorem dX4_nextDirty_28 : decode cX4_nextDirty 28 = .ok (.istore_n 3, 1) := dk_62 (dk_at dksX4_nextDirty_1 4 rfl rfl)
theorem dX4_nextDirty_29 : decode cX4_nextDirty 29 = .ok (.iload_n 3, 1) := dk_29 (dk_at dksX4_nextDirty_1 5 rfl rfl)
theorem dX4_nextDirty_30 : decode cX4_nextDirty 30 = .ok (.iconst (-1), 1) := dk_2 (dk_at dksX4_nextDirty_1 6 rfl rfl)
theorem dX4_nextDirty_31 : decode cX4_nextDirty 31 = .ok (.if_icmp .eq 28, 3) := dk_159 0 28 (dk_at dksX4_nextDirty_1 7 rfl rfl)
theorem dX4_nextDirty_34 : decode cX4_nextDirty 34 = .ok (.aload_n 0, 1) := dk_42 (dk_at dksX4_nextDirty_1 10 rfl rfl)
theorem dX4_nextDirty_35 : decode cX4_nextDirty 35 = .ok (.getfield 7, 3) := dk_180 0 7 (dk_at dksX4_nextDirty_1 11 rfl rfl)
theorem dX4_nextDirty_38 : decode cX4_nextDirty 38 = .ok (.bipush 89, 2) := dk_16 89 (dk_at dksX4_nextDirty_1 14 rfl rfl)
theorem dX4_nextDirty_40 : decode cX4_nextDirty 40 = .ok (.iload_n 3, 1) := dk_29 (dk_at dksX4_nextDirty_1 16 rfl rfl)
theorem dX4_nextDirty_41 : decode cX4_nextDirty 41 = .ok (.iadd, 1) := dk_96 (dk_at dksX4_nextDirty_1 17 rfl rfl)
theorem dX4_nextDirty_42 : decode cX4_nextDirty 42 = .ok (.iaload, 1) := dk_46 (dk_at dksX4_nextDirty_1 18 rfl rfl)
theorem dX4_nextDirty_43 : decode cX4_nextDirty 43 = .ok (.iload_n 2, 1) := dk_28 (dk_at dksX4_nextDirty_1 19 rfl rfl)
theorem dX4_nextDirty_44 : decode cX4_nextDirty 44 = .ok (.iconst 4, 1) := dk_7 (dk_at dksX4_nextDirty_1 20 rfl rfl)
theorem dX4_nextDirty_45 : decode cX4_nextDirty 45 = .ok (.irem, 1) := dk_112 (dk_at dksX4_nextDirty_1 21 rfl rfl)
theorem dX4_nextDirty_46 : decode cX4_nextDirty 46 = .ok (.ishr, 1) := dk_122 (dk_at dksX4_nextDirty_1 22 rfl rfl)
theorem dX4_nextDirty_47 : decode cX4_nextDirty 47 = .ok (.iconst 1, 1) := dk_4 (dk_at dksX4_nextDirty_1 23 rfl rfl)
theorem dX4_nextDirty_48 : decode cX4_nextDirty 48 = .ok (.iand, 1) := dk_126 (dk_at dksX4_nextDirty_2 0 rfl rfl)
theorem dX4_nextDirty_49 : decode cX4_nextDirty 49 = .ok (.iconst 1, 1) := dk_4 (dk_at dksX4_nextDirty_2 1 rfl rfl)
theorem dX4_nextDirty_50 : decode cX4_nextDirty 50 = .ok (.if_icmp .ne 9, 3) := dk_160 0 9 (dk_at dksX4_nextDirty_2 2 rfl rfl)
theorem dX4_nextDirty_53 : decode cX4_nextDirty 53 = .ok (.aload_n 0, 1) := dk_42 (dk_at dksX4_nextDirty_2 5 rfl rfl)
theorem dX4_nextDirty_54 : decode cX4_nextDirty 54 = .ok (.iload_n 2, 1) := dk_28 (dk_at dksX4_nextDirty_2 6 rfl rfl)
theorem dX4_nextDirty_55 : decode cX4_nextDirty 55 = .ok (.invokevirtual 119, 3) := dk_182 0 119 (dk_at dksX4_nextDirty_2 7 rfl rfl)
theorem dX4_nextDirty_58 : decode cX4_nextDirty 58 = .ok (.ireturn, 1) := dk_172 (dk_at dksX4_nextDirty_2 10 rfl rfl)
theorem dX4_nextDirty_59 : decode cX4_nextDirty 59 = .ok (.iinc 2 1, 3) := dk_132 2 1 (dk_at dksX4_nextDirty_2 11 rfl rfl)
theorem dX4_nextDirty_62 : decode cX4_nextDirty 62 = .ok (.goto (-47), 3) := dk_167 255 209 (dk_at dksX4_nextDirty_2 14 rfl rfl)
theorem dX4_nextDirty_65 : decode cX4_nextDirty 65 = .ok (.aload_n 0, 1) := dk_42 (dk_at dksX4_nextDirty_2 17 rfl rfl)
theorem dX4_nextDirty_66 : decode cX4_nextDirty 66 = .ok (.iconst 2, 1) := dk_5 (dk_at dksX4_nextDirty_2 18 rfl rfl)
theorem dX4_nextDirty_67 : decode cX4_nextDirty 67 = .ok (.invokevirtual 57, 3) := dk_182 0 57 (dk_at dksX4_nextDirty_2 19 rfl rfl)
theorem dX4_nextDirty_70 : decode cX4_nextDirty 70 = .ok (.ireturn, 1) := dk_172 (dk_at dksX4_nextDirty_2 22 rfl rfl)
abbrev cX4_feed : ByteArray := prog_15_method_59_code
def yX4_feed : MethodName := ⟨RX4, "feed", "(C)I"⟩
def dkwX4_feed_1 : List UInt8 := [85, 42, 89, 180, 0, 165, 4, 96, 181, 0, 165, 42, 42, 180, 0, 165, 182, 0, 119, 172]
abbrev dktX4_feed_1 : List UInt8 := dkwX4_feed_1 ++ []
def dkwX4_feed_0 : List UInt8 := [42, 180, 0, 165, 16, 60, 160, 0, 9, 42, 4, 182, 0, 57, 172, 42, 180, 0, 25, 42, 180, 0, 165, 27]
abbrev dktX4_feed_0 : List UInt8 := dkwX4_feed_0 ++ dktX4_feed_1
theorem dksX4_feed_0 : cX4_feed.data.toList.drop 0 = dktX4_feed_0 := by decide +kernel
theorem dksX4_feed_1 : cX4_feed.data.toList.drop 24 = dktX4_feed_1 := dk_seg dksX4_feed_0 24 rfl rfl
theorem dX4_feed_0 : decode cX4_feed 0 = .ok (.aload_n 0, 1) := dk_42 (dk_at dksX4_feed_0 0 rfl rfl)
theorem dX4_feed_1 : decode cX4_feed 1 = .ok (.getfield 165, 3) := dk_180 0 165 (dk_at dksX4_feed_0 1 rfl rfl)
theorem dX4_feed_4 : decode cX4_feed 4 = .ok (.bipush 60, 2) := dk_16 60 (dk_at dksX4_feed_0 4 rfl rfl)
theorem dX4_feed_6 : decode cX4_feed 6 = .ok (.if_icmp .ne 9, 3) := dk_160 0 9 (dk_at dksX4_feed_0 6 rfl rfl)
theorem dX4_feed_9 : decode cX4_feed 9 = .ok (.aload_n 0, 1) := dk_42 (dk_at dksX4_feed_0 9 rfl rfl)
theorem dX4_feed_10 : decode cX4_feed 10 = .ok (.iconst 1, 1) := dk_4 (dk_at dksX4_feed_0 10 rfl rfl)
theorem dX4_feed_11 : decode cX4_feed 11 = .ok (.invokevirtual 57, 3) := dk_182 0 57 (dk_at dksX4_feed_0 11 rfl rfl)
theorem dX4_feed_14 : decode cX4_feed 14 = .ok (.ireturn, 1) := dk_172 (dk_at dksX4_feed_0 14 rfl rfl)
theorem dX4_feed_15 : decode cX4_feed 15 = .ok (.aload_n 0, 1) := dk_42 (dk_at dksX4_feed_0 15 rfl rfl)
theorem dX4_feed_16 : decode cX4_feed 16 = .ok (.getfield 25, 3) := dk_180 0 25 (dk_at dksX4_feed_0 16 rfl rfl)
theorem dX4_feed_19 : decode cX4_feed 19 = .ok (.aload_n 0, 1) := dk_42 (dk_at dksX4_feed_0 19 rfl rfl)
theorem dX4_feed_20 : decode cX4_feed 20 = .ok (.getfield 165, 3) := dk_180 0 165 (dk_at dksX4_feed_0 20 rfl rfl)
theorem dX4_feed_23 : decode cX4_feed 23 = .ok (.iload_n 1, 1) := dk_27 (dk_at dksX4_feed_0 23 rfl rfl)
theorem dX4_feed_24 : decode cX4_feed 24 = .ok (.castore, 1) := dk_85 (dk_at dksX4_feed_1 0 rfl rfl)
theorem dX4_feed_25 : decode cX4_feed 25 = .ok (.aload_n 0, 1) := dk_42 (dk_at dksX4_feed_1 1 rfl rfl)
theorem dX4_feed_26 : decode cX4_feed 26 = .ok (.dup, 1) := dk_89 (dk_at dksX4_feed_1 2 rfl rfl)
theorem dX4_feed_27 : decode cX4_feed 27 = .ok (.getfield 165, 3) := dk_180 0 165 (dk_at dksX4_feed_1 3 rfl rfl)
theorem dX4_feed_30 : decode cX4_feed 30 = .ok (.iconst 1, 1) := dk_4 (dk_at dksX4_feed_1 6 rfl rfl)
theorem dX4_feed_31 : decode cX4_feed 31 = .ok (.iadd, 1) := dk_96 (dk_at dksX4_feed_1 7 rfl rfl)
theorem dX4_feed_32 : decode cX4_feed 32 = .ok (.putfield 165, 3) := dk_181 0 165 (dk_at dksX4_feed_1 8 rfl rfl)
theorem dX4_feed_35 : decode cX4_feed 35 = .ok (.aload_n 0, 1) := dk_42 (dk_at dksX4_feed_1 11 rfl rfl)
theorem dX4_feed_36 : decode cX4_feed 36 = .ok (.aload_n 0, 1) := dk_42 (dk_at dksX4_feed_1 12 rfl rfl)
theorem dX4_feed_37 : decode cX4_feed 37 = .ok (.getfield 165, 3) := dk_180 0 165 (dk_at dksX4_feed_1 13 rfl rfl)
theorem dX4_feed_40 : decode cX4_feed 40 = .ok (.invokevirtual 119, 3) := dk_182 0 119 (dk_at dksX4_feed_1 16 rfl rfl)
theorem dX4_feed_43 : decode cX4_feed 43 = .ok (.ireturn, 1) := dk_172 (dk_at dksX4_feed_1 19 rfl rfl)
abbrev cX4_run : ByteArray := prog_15_method_72_code
def yX4_run : MethodName := ⟨RX4, "run", "()I"⟩
def dkwX4_run_4 : List UInt8 := [167, 255, 195, 42, 42, 27, 182, 0, 119, 182, 0, 128, 172]
abbrev dktX4_run_4 : List UInt8 := dkwX4_run_4 ++ []
def dkwX4_run_3 : List UInt8 := [16, 7, 181, 0, 45, 42, 28, 181, 0, 48, 42, 5, 181, 0, 42, 42, 3, 182, 0, 128, 172, 132, 2, 1]
abbrev dktX4_run_3 : List UInt8 := dkwX4_run_3 ++ dktX4_run_4
def dkwX4_run_2 : List UInt8 := [180, 0, 42, 153, 0, 41, 42, 42, 180, 0, 45, 181, 0, 51, 42, 42, 180, 0, 48, 181, 0, 54, 42]
abbrev dktX4_run_2 : List UInt8 := dkwX4_run_2 ++ dktX4_run_3
def dkwX4_run_1 : List UInt8 := [182, 0, 57, 172, 42, 182, 0, 122, 3, 61, 28, 27, 162, 0, 62, 42, 6, 28, 104, 182, 0, 233, 62, 42]
abbrev dktX4_run_1 : List UInt8 := dkwX4_run_1 ++ dktX4_run_2
def dkwX4_run_0 : List UInt8 := [42, 182, 0, 230, 60, 42, 180, 0, 185, 153, 0, 17, 42, 42, 180, 0, 182, 181, 0, 29, 42, 4]
abbrev dktX4_run_0 : List UInt8 := dkwX4_run_0 ++ dktX4_run_1
theorem dksX4_run_0 : cX4_run.data.toList.drop 0 = dktX4_run_0 := by decide +kernel
theorem dksX4_run_1 : cX4_run.data.toList.drop 22 = dktX4_run_1 := dk_seg dksX4_run_0 22 rfl rfl
theorem dksX4_run_2 : cX4_run.data.toList.drop 46 = dktX4_run_2 := dk_seg dksX4_run_1 24 rfl rfl
theorem dksX4_run_3 : cX4_run.data.toList.drop 69 = dktX4_run_3 := dk_seg dksX4_run_2 23 rfl rfl
theorem dksX4_run_4 : cX4_run.data.toList.drop 93 = dktX4_run_4 := dk_seg dksX4_run_3 24 rfl rfl
theorem dX4_run_0 : decode cX4_run 0 = .ok (.aload_n 0, 1) := dk_42 (dk_at dksX4_run_0 0 rfl rfl)
theorem dX4_run_1 : decode cX4_run 1 = .ok (.invokevirtual 230, 3) := dk_182 0 230 (dk_at dksX4_run_0 1 rfl rfl)
theorem dX4_run_4 : decode cX4_run 4 = .ok (.istore_n 1, 1) := dk_60 (dk_at dksX4_run_0 4 rfl rfl)
theorem dX4_run_5 : decode cX4_run 5 = .ok (.aload_n 0, 1) := dk_42 (dk_at dksX4_run_0 5 rfl rfl)
theorem dX4_run_6 : decode cX4_run 6 = .ok (.getfield 185, 3) := dk_180 0 185 (dk_at dksX4_run_0 6 rfl rfl)
theorem dX4_run_9 : decode cX4_run 9 = .ok (.ifCond .eq 17, 3) := dk_153 0 17 (dk_at dksX4_run_0 9 rfl rfl)
theorem dX4_run_12 : decode cX4_run 12 = .ok (.aload_n 0, 1) := dk_42 (dk_at dksX4_run_0 12 rfl rfl)
theorem dX4_run_13 : decode cX4_run 13 = .ok (.aload_n 0, 1) := dk_42 (dk_at dksX4_run_0 13 rfl rfl)
theorem dX4_run_14 : decode cX4_run 14 = .ok (.getfield 182, 3) := dk_180 0 182 (dk_at dksX4_run_0 14 rfl rfl)
theorem dX4_run_17 : decode cX4_run 17 = .ok (.putfield 29, 3) := dk_181 0 29 (dk_at dksX4_run_0 17 rfl rfl)
theorem dX4_run_20 : decode cX4_run 20 = .ok (.aload_n 0, 1) := dk_42 (dk_at dksX4_run_0 20 rfl rfl)
theorem dX4_run_21 : decode cX4_run 21 = .ok (.iconst 1, 1) := dk_4 (dk_at dksX4_run_0 21 rfl rfl)
theorem dX4_run_22 : decode cX4_run 22 = .ok (.invokevirtual 57, 3) := dk_182 0 57 (dk_at dksX4_run_1 0 rfl rfl)
theorem dX4_run_25 : decode cX4_run 25 = .ok (.ireturn, 1) := dk_172 (dk_at dksX4_run_1 3 rfl rfl)
theorem dX4_run_26 : decode cX4_run 26 = .ok (.aload_n 0, 1) := dk_42 (dk_at dksX4_run_1 4 rfl rfl)
theorem dX4_run_27 : decode cX4_run 27 = .ok (.invokevirtual 122, 3) := dk_182 0 122 (dk_at dksX4_run_1 5 rfl rfl)
theorem dX4_run_30 : decode cX4_run 30 = .ok (.iconst 0, 1) := dk_3 (dk_at dksX4_run_1 8 rfl rfl)
theorem dX4_run_31 : decode cX4_run 31 = .ok (.istore_n 2, 1) := dk_61 (dk_at dksX4_run_1 9 rfl rfl)
theorem dX4_run_32 : decode cX4_run 32 = .ok (.iload_n 2, 1) := dk_28 (dk_at dksX4_run_1 10 rfl rfl)
theorem dX4_run_33 : decode cX4_run 33 = .ok (.iload_n 1, 1) := dk_27 (dk_at dksX4_run_1 11 rfl rfl)
theorem dX4_run_34 : decode cX4_run 34 = .ok (.if_icmp .ge 62, 3) := dk_162 0 62 (dk_at dksX4_run_1 12 rfl rfl)
theorem dX4_run_37 : decode cX4_run 37 = .ok (.aload_n 0, 1) := dk_42 (dk_at dksX4_run_1 15 rfl rfl)
theorem dX4_run_38 : decode cX4_run 38 = .ok (.iconst 3, 1) := dk_6 (dk_at dksX4_run_1 16 rfl rfl)
theorem dX4_run_39 : decode cX4_run 39 = .ok (.iload_n 2, 1) := dk_28 (dk_at dksX4_run_1 17 rfl rfl)
theorem dX4_run_40 : decode cX4_run 40 = .ok (.imul, 1) := dk_104 (dk_at dksX4_run_1 18 rfl rfl)
theorem dX4_run_41 : decode cX4_run 41 = .ok (.invokevirtual 233, 3) := dk_182 0 233 (dk_at dksX4_run_1 19 rfl rfl)
theorem dX4_run_44 : decode cX4_run 44 = .ok (.istore_n 3, 1) := dk_62 (dk_at dksX4_run_1 22 rfl rfl)
theorem dX4_run_45 : decode cX4_run 45 = .ok (.aload_n 0, 1) := dk_42 (dk_at dksX4_run_1 23 rfl rfl)
theorem dX4_run_46 : decode cX4_run 46 = .ok (.getfield 42, 3) := dk_180 0 42 (dk_at dksX4_run_2 0 rfl rfl)
theorem dX4_run_49 : decode cX4_run 49 = .ok (.ifCond .eq 41, 3) := dk_153 0 41 (dk_at dksX4_run_2 3 rfl rfl)
theorem dX4_run_52 : decode cX4_run 52 = .ok (.aload_n 0, 1) := dk_42 (dk_at dksX4_run_2 6 rfl rfl)
theorem dX4_run_53 : decode cX4_run 53 = .ok (.aload_n 0, 1) := dk_42 (dk_at dksX4_run_2 7 rfl rfl)
theorem dX4_run_54 : decode cX4_run 54 = .ok (.getfield 45, 3) := dk_180 0 45 (dk_at dksX4_run_2 8 rfl rfl)
theorem dX4_run_57 : decode cX4_run 57 = .ok (.putfield 51, 3) := dk_181 0 51 (dk_at dksX4_run_2 11 rfl rfl)
theorem dX4_run_60 : decode cX4_run 60 = .ok (.aload_n 0, 1) := dk_42 (dk_at dksX4_run_2 14 rfl rfl)
theorem dX4_run_61 : decode cX4_run 61 = .ok (.aload_n 0, 1) := dk_42 (dk_at dksX4_run_2 15 rfl rfl)
theorem dX4_run_62 : decode cX4_run 62 = .ok (.getfield 48, 3) := dk_180 0 48 (dk_at dksX4_run_2 16 rfl rfl)
theorem dX4_run_65 : decode cX4_run 65 = .ok (.putfield 54, 3) := dk_181 0 54 (dk_at dksX4_run_2 19 rfl rfl)
theorem dX4_run_68 : decode cX4_run 68 = .ok (.aload_n 0, 1) := dk_42 (dk_at dksX4_run_2 22 rfl rfl)
theorem dX4_run_69 : decode cX4_run 69 = .ok (.bipush 7, 2) := dk_16 7 (dk_at dksX4_run_3 0 rfl rfl)
theorem dX4_run_71 : decode cX4_run 71 = .ok (.putfield 45, 3) := dk_181 0 45 (dk_at dksX4_run_3 2 rfl rfl)
theorem dX4_run_74 : decode cX4_run 74 = .ok (.aload_n 0, 1) := dk_42 (dk_at dksX4_run_3 5 rfl rfl)
theorem dX4_run_75 : decode cX4_run 75 = .ok (.iload_n 2, 1) := dk_28 (dk_at dksX4_run_3 6 rfl rfl)
theorem dX4_run_76 : decode cX4_run 76 = .ok (.putfield 48, 3) := dk_181 0 48 (dk_at dksX4_run_3 7 rfl rfl)
theorem dX4_run_79 : decode cX4_run 79 = .ok (.aload_n 0, 1) := dk_42 (dk_at dksX4_run_3 10 rfl rfl)
theorem dX4_run_80 : decode cX4_run 80 = .ok (.iconst 2, 1) := dk_5 (dk_at dksX4_run_3 11 rfl rfl)
theorem dX4_run_81 : decode cX4_run 81 = .ok (.putfield 42, 3) := dk_181 0 42 (dk_at dksX4_run_3 12 rfl rfl)
theorem dX4_run_84 : decode cX4_run 84 = .ok (.aload_n 0, 1) := dk_42 (dk_at dksX4_run_3 15 rfl rfl)
theorem dX4_run_85 : decode cX4_run 85 = .ok (.iconst 0, 1) := dk_3 (dk_at dksX4_run_3 16 rfl rfl)
theorem dX4_run_86 : decode cX4_run 86 = .ok (.invokevirtual 128, 3) := dk_182 0 128 (dk_at dksX4_run_3 17 rfl rfl)
theorem dX4_run_89 : decode cX4_run 89 = .ok (.ireturn, 1) := dk_172 (dk_at dksX4_run_3 20 rfl rfl)
theorem dX4_run_90 : decode cX4_run 90 = .ok (.iinc 2 1, 3) := dk_132 2 1 (dk_at dksX4_run_3 21 rfl rfl)
theorem dX4_run_93 : decode cX4_run 93 = .ok (.goto (-61), 3) := dk_167 255 195 (dk_at dksX4_run_4 0 rfl rfl)
theorem dX4_run_96 : decode cX4_run 96 = .ok (.aload_n 0, 1) := dk_42 (dk_at dksX4_run_4 3 rfl rfl)
theorem dX4_run_97 : decode cX4_run 97 = .ok (.aload_n 0, 1) := dk_42 (dk_at dksX4_run_4 4 rfl rfl)
theorem dX4_run_98 : decode cX4_run 98 = .ok (.iload_n 1, 1) := dk_27 (dk_at dksX4_run_4 5 rfl rfl)
theorem dX4_run_99 : decode cX4_run 99 = .ok (.invokevirtual 119, 3) := dk_182 0 119 (dk_at dksX4_run_4 6 rfl rfl)
theorem dX4_run_102 : decode cX4_run 102 = .ok (.invokevirtual 128, 3) := dk_182 0 128 (dk_at dksX4_run_4 9 rfl rfl)
theorem dX4_run_105 : decode cX4_run 105 = .ok (.ireturn, 1) := dk_172 (dk_at dksX4_run_4 12 rfl rfl)
abbrev cX4_readsText : ByteArray := prog_15_method_70_code
def yX4_readsText : MethodName := ⟨RX4, "readsText", "()I"⟩
def dkwX4_readsText_4 : List UInt8 := [167, 0, 4, 3, 181, 0, 185, 42, 3, 181, 0, 165, 27, 172]
abbrev dktX4_readsText_4 : List UInt8 := dkwX4_readsText_4 ++ []
def dkwX4_readsText_3 : List UInt8 := [167, 255, 202, 42, 42, 180, 0, 185, 154, 0, 14, 42, 180, 0, 182, 42, 180, 0, 165, 162, 0, 7, 4]
abbrev dktX4_readsText_3 : List UInt8 := dkwX4_readsText_3 ++ dktX4_readsText_4
def dkwX4_readsText_2 : List UInt8 := [167, 0, 4, 3, 61, 42, 89, 180, 0, 182, 28, 153, 0, 7, 4, 167, 0, 4, 3, 96, 181, 0, 182]
abbrev dktX4_readsText_2 : List UInt8 := dkwX4_readsText_2 ++ dktX4_readsText_3
def dkwX4_readsText_1 : List UInt8 := [182, 0, 227, 132, 1, 1, 42, 180, 0, 185, 154, 0, 16, 42, 182, 0, 189, 16, 59, 160, 0, 7, 4]
abbrev dktX4_readsText_1 : List UInt8 := dkwX4_readsText_1 ++ dktX4_readsText_2
def dkwX4_readsText_0 : List UInt8 := [42, 3, 181, 0, 182, 42, 3, 181, 0, 185, 3, 60, 4, 61, 28, 153, 0, 56, 42, 6, 27, 104]
abbrev dktX4_readsText_0 : List UInt8 := dkwX4_readsText_0 ++ dktX4_readsText_1
theorem dksX4_readsText_0 : cX4_readsText.data.toList.drop 0 = dktX4_readsText_0 := by decide +kernel
theorem dksX4_readsText_1 : cX4_readsText.data.toList.drop 22 = dktX4_readsText_1 := dk_seg dksX4_readsText_0 22 rfl rfl
theorem dksX4_readsText_2 : cX4_readsText.data.toList.drop 45 = dktX4_readsText_2 := dk_seg dksX4_readsText_1 23 rfl rfl
theorem dksX4_readsText_3 : cX4_readsText.data.toList.drop 68 = dktX4_readsText_3 := dk_seg dksX4_readsText_2 23 rfl rfl
theorem dksX4_readsText_4 : cX4_readsText.data.toList.drop 91 = dktX4_readsText_4 := dk_seg dksX4_readsText_3 23 rfl rfl
theorem dX4_readsText_0 : decode cX4_readsText 0 = .ok (.aload_n 0, 1) := dk_42 (dk_at dksX4_readsText_0 0 rfl rfl)
theorem dX4_readsText_1 : decode cX4_readsText 1 = .ok (.iconst 0, 1) := dk_3 (dk_at dksX4_readsText_0 1 rfl rfl)
theorem dX4_readsText_2 : decode cX4_readsText 2 = .ok (.putfield 182, 3) := dk_181 0 182 (dk_at dksX4_readsText_0 2 rfl rfl)
theorem dX4_readsText_5 : decode cX4_readsText 5 = .ok (.aload_n 0, 1) := dk_42 (dk_at dksX4_readsText_0 5 rfl rfl)
theorem dX4_readsText_6 : decode cX4_readsText 6 = .ok (.iconst 0, 1) := dk_3 (dk_at dksX4_readsText_0 6 rfl rfl)
theorem dX4_readsText_7 : decode cX4_readsText 7 = .ok (.putfield 185, 3) := dk_181 0 185 (dk_at dksX4_readsText_0 7 rfl rfl)
theorem dX4_readsText_10 : decode cX4_readsText 10 = .ok (.iconst 0, 1) := dk_3 (dk_at dksX4_readsText_0 10 rfl rfl)
theorem dX4_readsText_11 : decode cX4_readsText 11 = .ok (.istore_n 1, 1) := dk_60 (dk_at dksX4_readsText_0 11 rfl rfl)
theorem dX4_readsText_12 : decode cX4_readsText 12 = .ok (.iconst 1, 1) := dk_4 (dk_at dksX4_readsText_0 12 rfl rfl)
theorem dX4_readsText_13 : decode cX4_readsText 13 = .ok (.istore_n 2, 1) := dk_61 (dk_at dksX4_readsText_0 13 rfl rfl)
theorem dX4_readsText_14 : decode cX4_readsText 14 = .ok (.iload_n 2, 1) := dk_28 (dk_at dksX4_readsText_0 14 rfl rfl)
theorem dX4_readsText_15 : decode cX4_readsText 15 = .ok (.ifCond .eq 56, 3) := dk_153 0 56 (dk_at dksX4_readsText_0 15 rfl rfl)
theorem dX4_readsText_18 : decode cX4_readsText 18 = .ok (.aload_n 0, 1) := dk_42 (dk_at dksX4_readsText_0 18 rfl rfl)
theorem dX4_readsText_19 : decode cX4_readsText 19 = .ok (.iconst 3, 1) := dk_6 (dk_at dksX4_readsText_0 19 rfl rfl)
theorem dX4_readsText_20 : decode cX4_readsText 20 = .ok (.iload_n 1, 1) := dk_27 (dk_at dksX4_readsText_0 20 rfl rfl)
theorem dX4_readsText_21 : decode cX4_readsText 21 = .ok (.imul, 1) := dk_104 (dk_at dksX4_readsText_0 21 rfl rfl)
theorem dX4_readsText_22 : decode cX4_readsText 22 = .ok (.invokevirtual 227, 3) := dk_182 0 227 (dk_at dksX4_readsText_1 0 rfl rfl)
theorem dX4_readsText_25 : decode cX4_readsText 25 = .ok (.iinc 1 1, 3) := dk_132 1 1 (dk_at dksX4_readsText_1 3 rfl rfl)
theorem dX4_readsText_28 : decode cX4_readsText 28 = .ok (.aload_n 0, 1) := dk_42 (dk_at dksX4_readsText_1 6 rfl rfl)
theorem dX4_readsText_29 : decode cX4_readsText 29 = .ok (.getfield 185, 3) := dk_180 0 185 (dk_at dksX4_readsText_1 7 rfl rfl)
theorem dX4_readsText_32 : decode cX4_readsText 32 = .ok (.ifCond .ne 16, 3) := dk_154 0 16 (dk_at dksX4_readsText_1 10 rfl rfl)
theorem dX4_readsText_35 : decode cX4_readsText 35 = .ok (.aload_n 0, 1) := dk_42 (dk_at dksX4_readsText_1 13 rfl rfl)
theorem dX4_readsText_36 : decode cX4_readsText 36 = .ok (.invokevirtual 189, 3) := dk_182 0 189 (dk_at dksX4_readsText_1 14 rfl rfl)
theorem dX4_readsText_39 : decode cX4_readsText 39 = .ok (.bipush 59, 2) := dk_16 59 (dk_at dksX4_readsText_1 17 rfl rfl)
theorem dX4_readsText_41 : decode cX4_readsText 41 = .ok (.if_icmp .ne 7, 3) := dk_160 0 7 (dk_at dksX4_readsText_1 19 rfl rfl)
theorem dX4_readsText_44 : decode cX4_readsText 44 = .ok (.iconst 1, 1) := dk_4 (dk_at dksX4_readsText_1 22 rfl rfl)
theorem dX4_readsText_45 : decode cX4_readsText 45 = .ok (.goto 4, 3) := dk_167 0 4 (dk_at dksX4_readsText_2 0 rfl rfl)
theorem dX4_readsText_48 : decode cX4_readsText 48 = .ok (.iconst 0, 1) := dk_3 (dk_at dksX4_readsText_2 3 rfl rfl)
theorem dX4_readsText_49 : decode cX4_readsText 49 = .ok (.istore_n 2, 1) := dk_61 (dk_at dksX4_readsText_2 4 rfl rfl)
theorem dX4_readsText_50 : decode cX4_readsText 50 = .ok (.aload_n 0, 1) := dk_42 (dk_at dksX4_readsText_2 5 rfl rfl)
theorem dX4_readsText_51 : decode cX4_readsText 51 = .ok (.dup, 1) := dk_89 (dk_at dksX4_readsText_2 6 rfl rfl)
theorem dX4_readsText_52 : decode cX4_readsText 52 = .ok (.getfield 182, 3) := dk_180 0 182 (dk_at dksX4_readsText_2 7 rfl rfl)
theorem dX4_readsText_55 : decode cX4_readsText 55 = .ok (.iload_n 2, 1) := dk_28 (dk_at dksX4_readsText_2 10 rfl rfl)
theorem dX4_readsText_56 : decode cX4_readsText 56 = .ok (.ifCond .eq 7, 3) := dk_153 0 7 (dk_at dksX4_readsText_2 11 rfl rfl)
theorem dX4_readsText_59 : decode cX4_readsText 59 = .ok (.iconst 1, 1) := dk_4 (dk_at dksX4_readsText_2 14 rfl rfl)
theorem dX4_readsText_60 : decode cX4_readsText 60 = .ok (.goto 4, 3) := dk_167 0 4 (dk_at dksX4_readsText_2 15 rfl rfl)
theorem dX4_readsText_63 : decode cX4_readsText 63 = .ok (.iconst 0, 1) := dk_3 (dk_at dksX4_readsText_2 18 rfl rfl)
theorem dX4_readsText_64 : decode cX4_readsText 64 = .ok (.iadd, 1) := dk_96 (dk_at dksX4_readsText_2 19 rfl rfl)
theorem dX4_readsText_65 : decode cX4_readsText 65 = .ok (.putfield 182, 3) := dk_181 0 182 (dk_at dksX4_readsText_2 20 rfl rfl)
theorem dX4_readsText_68 : decode cX4_readsText 68 = .ok (.goto (-54), 3) := dk_167 255 202 (dk_at dksX4_readsText_3 0 rfl rfl)
theorem dX4_readsText_71 : decode cX4_readsText 71 = .ok (.aload_n 0, 1) := dk_42 (dk_at dksX4_readsText_3 3 rfl rfl)
theorem dX4_readsText_72 : decode cX4_readsText 72 = .ok (.aload_n 0, 1) := dk_42 (dk_at dksX4_readsText_3 4 rfl rfl)
theorem dX4_readsText_73 : decode cX4_readsText 73 = .ok (.getfield 185, 3) := dk_180 0 185 (dk_at dksX4_readsText_3 5 rfl rfl)
theorem dX4_readsText_76 : decode cX4_readsText 76 = .ok (.ifCond .ne 14, 3) := dk_154 0 14 (dk_at dksX4_readsText_3 8 rfl rfl)
theorem dX4_readsText_79 : decode cX4_readsText 79 = .ok (.aload_n 0, 1) := dk_42 (dk_at dksX4_readsText_3 11 rfl rfl)
theorem dX4_readsText_80 : decode cX4_readsText 80 = .ok (.getfield 182, 3) := dk_180 0 182 (dk_at dksX4_readsText_3 12 rfl rfl)
theorem dX4_readsText_83 : decode cX4_readsText 83 = .ok (.aload_n 0, 1) := dk_42 (dk_at dksX4_readsText_3 15 rfl rfl)
theorem dX4_readsText_84 : decode cX4_readsText 84 = .ok (.getfield 165, 3) := dk_180 0 165 (dk_at dksX4_readsText_3 16 rfl rfl)
theorem dX4_readsText_87 : decode cX4_readsText 87 = .ok (.if_icmp .ge 7, 3) := dk_162 0 7 (dk_at dksX4_readsText_3 19 rfl rfl)
theorem dX4_readsText_90 : decode cX4_readsText 90 = .ok (.iconst 1, 1) := dk_4 (dk_at dksX4_readsText_3 22 rfl rfl)
theorem dX4_readsText_91 : decode cX4_readsText 91 = .ok (.goto 4, 3) := dk_167 0 4 (dk_at dksX4_readsText_4 0 rfl rfl)
theorem dX4_readsText_94 : decode cX4_readsText 94 = .ok (.iconst 0, 1) := dk_3 (dk_at dksX4_readsText_4 3 rfl rfl)
theorem dX4_readsText_95 : decode cX4_readsText 95 = .ok (.putfield 185, 3) := dk_181 0 185 (dk_at dksX4_readsText_4 4 rfl rfl)
theorem dX4_readsText_98 : decode cX4_readsText 98 = .ok (.aload_n 0, 1) := dk_42 (dk_at dksX4_readsText_4 7 rfl rfl)
theorem dX4_readsText_99 : decode cX4_readsText 99 = .ok (.iconst 0, 1) := dk_3 (dk_at dksX4_readsText_4 8 rfl rfl)
theorem dX4_readsText_100 : decode cX4_readsText 100 = .ok (.putfield 165, 3) := dk_181 0 165 (dk_at dksX4_readsText_4 9 rfl rfl)
theorem dX4_readsText_103 : decode cX4_readsText 103 = .ok (.iload_n 1, 1) := dk_27 (dk_at dksX4_readsText_4 12 rfl rfl)
theorem dX4_readsText_104 : decode cX4_readsText 104 = .ok (.ireturn, 1) := dk_172 (dk_at dksX4_readsText_4 13 rfl rfl)
abbrev cX4_readsOrder : ByteArray := prog_15_method_69_code
def yX4_readsOrder : MethodName := ⟨RX4, "readsOrder", "(I)V"⟩
def dkwX4_readsOrder_2 : List UInt8 := [180, 0, 36, 27, 5, 96, 42, 182, 0, 224, 79, 177]
abbrev dktX4_readsOrder_2 : List UInt8 := dkwX4_readsOrder_2 ++ []
def dkwX4_readsOrder_1 : List UInt8 := [96, 42, 182, 0, 218, 79, 28, 4, 159, 0, 8, 28, 8, 160, 0, 21, 42, 16, 61, 182, 0, 208, 42]
abbrev dktX4_readsOrder_1 : List UInt8 := dkwX4_readsOrder_1 ++ dktX4_readsOrder_2
def dkwX4_readsOrder_0 : List UInt8 := [42, 182, 0, 221, 61, 42, 180, 0, 36, 27, 28, 79, 28, 7, 160, 0, 4, 177, 42, 180, 0, 36, 27, 4]
abbrev dktX4_readsOrder_0 : List UInt8 := dkwX4_readsOrder_0 ++ dktX4_readsOrder_1
theorem dksX4_readsOrder_0 : cX4_readsOrder.data.toList.drop 0 = dktX4_readsOrder_0 := by decide +kernel
theorem dksX4_readsOrder_1 : cX4_readsOrder.data.toList.drop 24 = dktX4_readsOrder_1 := dk_seg dksX4_readsOrder_0 24 rfl rfl
theorem dksX4_readsOrder_2 : cX4_readsOrder.data.toList.drop 47 = dktX4_readsOrder_2 := dk_seg dksX4_readsOrder_1 23 rfl rfl
theorem dX4_readsOrder_0 : decode cX4_readsOrder 0 = .ok (.aload_n 0, 1) := dk_42 (dk_at dksX4_readsOrder_0 0 rfl rfl)
theorem dX4_readsOrder_1 : decode cX4_readsOrder 1 = .ok (.invokevirtual 221, 3) := dk_182 0 221 (dk_at dksX4_readsOrder_0 1 rfl rfl)
theorem dX4_readsOrder_4 : decode cX4_readsOrder 4 = .ok (.istore_n 2, 1) := dk_61 (dk_at dksX4_readsOrder_0 4 rfl rfl)
theorem dX4_readsOrder_5 : decode cX4_readsOrder 5 = .ok (.aload_n 0, 1) := dk_42 (dk_at dksX4_readsOrder_0 5 rfl rfl)
theorem dX4_readsOrder_6 : decode cX4_readsOrder 6 = .ok (.getfield 36, 3) := dk_180 0 36 (dk_at dksX4_readsOrder_0 6 rfl rfl)
theorem dX4_readsOrder_9 : decode cX4_readsOrder 9 = .ok (.iload_n 1, 1) := dk_27 (dk_at dksX4_readsOrder_0 9 rfl rfl)
theorem dX4_readsOrder_10 : decode cX4_readsOrder 10 = .ok (.iload_n 2, 1) := dk_28 (dk_at dksX4_readsOrder_0 10 rfl rfl)
theorem dX4_readsOrder_11 : decode cX4_readsOrder 11 = .ok (.iastore, 1) := dk_79 (dk_at dksX4_readsOrder_0 11 rfl rfl)
theorem dX4_readsOrder_12 : decode cX4_readsOrder 12 = .ok (.iload_n 2, 1) := dk_28 (dk_at dksX4_readsOrder_0 12 rfl rfl)
theorem dX4_readsOrder_13 : decode cX4_readsOrder 13 = .ok (.iconst 4, 1) := dk_7 (dk_at dksX4_readsOrder_0 13 rfl rfl)
theorem dX4_readsOrder_14 : decode cX4_readsOrder 14 = .ok (.if_icmp .ne 4, 3) := dk_160 0 4 (dk_at dksX4_readsOrder_0 14 rfl rfl)
theorem dX4_readsOrder_17 : decode cX4_readsOrder 17 = .ok (.return_, 1) := dk_177 (dk_at dksX4_readsOrder_0 17 rfl rfl)
theorem dX4_readsOrder_18 : decode cX4_readsOrder 18 = .ok (.aload_n 0, 1) := dk_42 (dk_at dksX4_readsOrder_0 18 rfl rfl)
theorem dX4_readsOrder_19 : decode cX4_readsOrder 19 = .ok (.getfield 36, 3) := dk_180 0 36 (dk_at dksX4_readsOrder_0 19 rfl rfl)
theorem dX4_readsOrder_22 : decode cX4_readsOrder 22 = .ok (.iload_n 1, 1) := dk_27 (dk_at dksX4_readsOrder_0 22 rfl rfl)
theorem dX4_readsOrder_23 : decode cX4_readsOrder 23 = .ok (.iconst 1, 1) := dk_4 (dk_at dksX4_readsOrder_0 23 rfl rfl)
theorem dX4_readsOrder_24 : decode cX4_readsOrder 24 = .ok (.iadd, 1) := dk_96 (dk_at dksX4_readsOrder_1 0 rfl rfl)
theorem dX4_readsOrder_25 : decode cX4_readsOrder 25 = .ok (.aload_n 0, 1) := dk_42 (dk_at dksX4_readsOrder_1 1 rfl rfl)
theorem dX4_readsOrder_26 : decode cX4_readsOrder 26 = .ok (.invokevirtual 218, 3) := dk_182 0 218 (dk_at dksX4_readsOrder_1 2 rfl rfl)
theorem dX4_readsOrder_29 : decode cX4_readsOrder 29 = .ok (.iastore, 1) := dk_79 (dk_at dksX4_readsOrder_1 5 rfl rfl)
theorem dX4_readsOrder_30 : decode cX4_readsOrder 30 = .ok (.iload_n 2, 1) := dk_28 (dk_at dksX4_readsOrder_1 6 rfl rfl)
theorem dX4_readsOrder_31 : decode cX4_readsOrder 31 = .ok (.iconst 1, 1) := dk_4 (dk_at dksX4_readsOrder_1 7 rfl rfl)
theorem dX4_readsOrder_32 : decode cX4_readsOrder 32 = .ok (.if_icmp .eq 8, 3) := dk_159 0 8 (dk_at dksX4_readsOrder_1 8 rfl rfl)
theorem dX4_readsOrder_35 : decode cX4_readsOrder 35 = .ok (.iload_n 2, 1) := dk_28 (dk_at dksX4_readsOrder_1 11 rfl rfl)
theorem dX4_readsOrder_36 : decode cX4_readsOrder 36 = .ok (.iconst 5, 1) := dk_8 (dk_at dksX4_readsOrder_1 12 rfl rfl)
theorem dX4_readsOrder_37 : decode cX4_readsOrder 37 = .ok (.if_icmp .ne 21, 3) := dk_160 0 21 (dk_at dksX4_readsOrder_1 13 rfl rfl)
theorem dX4_readsOrder_40 : decode cX4_readsOrder 40 = .ok (.aload_n 0, 1) := dk_42 (dk_at dksX4_readsOrder_1 16 rfl rfl)
theorem dX4_readsOrder_41 : decode cX4_readsOrder 41 = .ok (.bipush 61, 2) := dk_16 61 (dk_at dksX4_readsOrder_1 17 rfl rfl)
theorem dX4_readsOrder_43 : decode cX4_readsOrder 43 = .ok (.invokevirtual 208, 3) := dk_182 0 208 (dk_at dksX4_readsOrder_1 19 rfl rfl)
theorem dX4_readsOrder_46 : decode cX4_readsOrder 46 = .ok (.aload_n 0, 1) := dk_42 (dk_at dksX4_readsOrder_1 22 rfl rfl)
theorem dX4_readsOrder_47 : decode cX4_readsOrder 47 = .ok (.getfield 36, 3) := dk_180 0 36 (dk_at dksX4_readsOrder_2 0 rfl rfl)
theorem dX4_readsOrder_50 : decode cX4_readsOrder 50 = .ok (.iload_n 1, 1) := dk_27 (dk_at dksX4_readsOrder_2 3 rfl rfl)
theorem dX4_readsOrder_51 : decode cX4_readsOrder 51 = .ok (.iconst 2, 1) := dk_5 (dk_at dksX4_readsOrder_2 4 rfl rfl)
theorem dX4_readsOrder_52 : decode cX4_readsOrder 52 = .ok (.iadd, 1) := dk_96 (dk_at dksX4_readsOrder_2 5 rfl rfl)
theorem dX4_readsOrder_53 : decode cX4_readsOrder 53 = .ok (.aload_n 0, 1) := dk_42 (dk_at dksX4_readsOrder_2 6 rfl rfl)
theorem dX4_readsOrder_54 : decode cX4_readsOrder 54 = .ok (.invokevirtual 224, 3) := dk_182 0 224 (dk_at dksX4_readsOrder_2 7 rfl rfl)
theorem dX4_readsOrder_57 : decode cX4_readsOrder 57 = .ok (.iastore, 1) := dk_79 (dk_at dksX4_readsOrder_2 10 rfl rfl)
theorem dX4_readsOrder_58 : decode cX4_readsOrder 58 = .ok (.return_, 1) := dk_177 (dk_at dksX4_readsOrder_2 11 rfl rfl)
abbrev cX4_readsWord : ByteArray := prog_15_method_64_code
def yX4_readsWord : MethodName := ⟨RX4, "readsWord", "()I"⟩
def dkwX4_readsWord_2 : List UInt8 := [132, 2, 1, 167, 255, 230, 27, 172]
abbrev dktX4_readsWord_2 : List UInt8 := dkwX4_readsWord_2 ++ []
def dkwX4_readsWord_1 : List UInt8 := [28, 27, 184, 0, 192, 182, 0, 205, 162, 0, 21, 42, 27, 184, 0, 192, 28, 182, 0, 196, 182, 0, 208]
abbrev dktX4_readsWord_1 : List UInt8 := dkwX4_readsWord_1 ++ dktX4_readsWord_2
def dkwX4_readsWord_0 : List UInt8 := [3, 60, 27, 16, 6, 162, 0, 17, 42, 27, 182, 0, 202, 154, 0, 9, 132, 1, 1, 167, 255, 239, 3, 61]
abbrev dktX4_readsWord_0 : List UInt8 := dkwX4_readsWord_0 ++ dktX4_readsWord_1
theorem dksX4_readsWord_0 : cX4_readsWord.data.toList.drop 0 = dktX4_readsWord_0 := by decide +kernel
theorem dksX4_readsWord_1 : cX4_readsWord.data.toList.drop 24 = dktX4_readsWord_1 := dk_seg dksX4_readsWord_0 24 rfl rfl
theorem dksX4_readsWord_2 : cX4_readsWord.data.toList.drop 47 = dktX4_readsWord_2 := dk_seg dksX4_readsWord_1 23 rfl rfl
theorem dX4_readsWord_0 : decode cX4_readsWord 0 = .ok (.iconst 0, 1) := dk_3 (dk_at dksX4_readsWord_0 0 rfl rfl)
theorem dX4_readsWord_1 : decode cX4_readsWord 1 = .ok (.istore_n 1, 1) := dk_60 (dk_at dksX4_readsWord_0 1 rfl rfl)
theorem dX4_readsWord_2 : decode cX4_readsWord 2 = .ok (.iload_n 1, 1) := dk_27 (dk_at dksX4_readsWord_0 2 rfl rfl)
theorem dX4_readsWord_3 : decode cX4_readsWord 3 = .ok (.bipush 6, 2) := dk_16 6 (dk_at dksX4_readsWord_0 3 rfl rfl)
theorem dX4_readsWord_5 : decode cX4_readsWord 5 = .ok (.if_icmp .ge 17, 3) := dk_162 0 17 (dk_at dksX4_readsWord_0 5 rfl rfl)
theorem dX4_readsWord_8 : decode cX4_readsWord 8 = .ok (.aload_n 0, 1) := dk_42 (dk_at dksX4_readsWord_0 8 rfl rfl)
theorem dX4_readsWord_9 : decode cX4_readsWord 9 = .ok (.iload_n 1, 1) := dk_27 (dk_at dksX4_readsWord_0 9 rfl rfl)
theorem dX4_readsWord_10 : decode cX4_readsWord 10 = .ok (.invokevirtual 202, 3) := dk_182 0 202 (dk_at dksX4_readsWord_0 10 rfl rfl)
theorem dX4_readsWord_13 : decode cX4_readsWord 13 = .ok (.ifCond .ne 9, 3) := dk_154 0 9 (dk_at dksX4_readsWord_0 13 rfl rfl)
theorem dX4_readsWord_16 : decode cX4_readsWord 16 = .ok (.iinc 1 1, 3) := dk_132 1 1 (dk_at dksX4_readsWord_0 16 rfl rfl)
theorem dX4_readsWord_19 : decode cX4_readsWord 19 = .ok (.goto (-17), 3) := dk_167 255 239 (dk_at dksX4_readsWord_0 19 rfl rfl)
theorem dX4_readsWord_22 : decode cX4_readsWord 22 = .ok (.iconst 0, 1) := dk_3 (dk_at dksX4_readsWord_0 22 rfl rfl)
theorem dX4_readsWord_23 : decode cX4_readsWord 23 = .ok (.istore_n 2, 1) := dk_61 (dk_at dksX4_readsWord_0 23 rfl rfl)
theorem dX4_readsWord_24 : decode cX4_readsWord 24 = .ok (.iload_n 2, 1) := dk_28 (dk_at dksX4_readsWord_1 0 rfl rfl)
theorem dX4_readsWord_25 : decode cX4_readsWord 25 = .ok (.iload_n 1, 1) := dk_27 (dk_at dksX4_readsWord_1 1 rfl rfl)
theorem dX4_readsWord_26 : decode cX4_readsWord 26 = .ok (.invokestatic 192, 3) := dk_184 0 192 (dk_at dksX4_readsWord_1 2 rfl rfl)
theorem dX4_readsWord_29 : decode cX4_readsWord 29 = .ok (.invokevirtual 205, 3) := dk_182 0 205 (dk_at dksX4_readsWord_1 5 rfl rfl)
theorem dX4_readsWord_32 : decode cX4_readsWord 32 = .ok (.if_icmp .ge 21, 3) := dk_162 0 21 (dk_at dksX4_readsWord_1 8 rfl rfl)
theorem dX4_readsWord_35 : decode cX4_readsWord 35 = .ok (.aload_n 0, 1) := dk_42 (dk_at dksX4_readsWord_1 11 rfl rfl)
theorem dX4_readsWord_36 : decode cX4_readsWord 36 = .ok (.iload_n 1, 1) := dk_27 (dk_at dksX4_readsWord_1 12 rfl rfl)
theorem dX4_readsWord_37 : decode cX4_readsWord 37 = .ok (.invokestatic 192, 3) := dk_184 0 192 (dk_at dksX4_readsWord_1 13 rfl rfl)
theorem dX4_readsWord_40 : decode cX4_readsWord 40 = .ok (.iload_n 2, 1) := dk_28 (dk_at dksX4_readsWord_1 16 rfl rfl)
theorem dX4_readsWord_41 : decode cX4_readsWord 41 = .ok (.invokevirtual 196, 3) := dk_182 0 196 (dk_at dksX4_readsWord_1 17 rfl rfl)
theorem dX4_readsWord_44 : decode cX4_readsWord 44 = .ok (.invokevirtual 208, 3) := dk_182 0 208 (dk_at dksX4_readsWord_1 20 rfl rfl)
theorem dX4_readsWord_47 : decode cX4_readsWord 47 = .ok (.iinc 2 1, 3) := dk_132 2 1 (dk_at dksX4_readsWord_2 0 rfl rfl)
theorem dX4_readsWord_50 : decode cX4_readsWord 50 = .ok (.goto (-26), 3) := dk_167 255 230 (dk_at dksX4_readsWord_2 3 rfl rfl)
theorem dX4_readsWord_53 : decode cX4_readsWord 53 = .ok (.iload_n 1, 1) := dk_27 (dk_at dksX4_readsWord_2 6 rfl rfl)
theorem dX4_readsWord_54 : decode cX4_readsWord 54 = .ok (.ireturn, 1) := dk_172 (dk_at dksX4_readsWord_2 7 rfl rfl)
abbrev cX4_isWord : ByteArray := prog_15_method_63_code
def yX4_isWord : MethodName := ⟨RX4, "isWord", "(I)Z"⟩
def dkwX4_isWord_2 : List UInt8 := [160, 0, 9, 28, 16, 108, 159, 0, 7, 4, 167, 0, 4, 3, 172]
abbrev dktX4_isWord_2 : List UInt8 := dkwX4_isWord_2 ++ []
def dkwX4_isWord_1 : List UInt8 := [167, 0, 4, 2, 61, 27, 184, 0, 192, 3, 182, 0, 196, 42, 182, 0, 189, 160, 0, 18, 27, 6]
abbrev dktX4_isWord_1 : List UInt8 := dkwX4_isWord_1 ++ dktX4_isWord_2
def dkwX4_isWord_0 : List UInt8 := [42, 180, 0, 182, 4, 96, 42, 180, 0, 165, 162, 0, 17, 42, 180, 0, 25, 42, 180, 0, 182, 4, 96, 52]
abbrev dktX4_isWord_0 : List UInt8 := dkwX4_isWord_0 ++ dktX4_isWord_1
theorem dksX4_isWord_0 : cX4_isWord.data.toList.drop 0 = dktX4_isWord_0 := by decide +kernel
theorem dksX4_isWord_1 : cX4_isWord.data.toList.drop 24 = dktX4_isWord_1 := dk_seg dksX4_isWord_0 24 rfl rfl
theorem dksX4_isWord_2 : cX4_isWord.data.toList.drop 46 = dktX4_isWord_2 := dk_seg dksX4_isWord_1 22 rfl rfl
theorem dX4_isWord_0 : decode cX4_isWord 0 = .ok (.aload_n 0, 1) := dk_42 (dk_at dksX4_isWord_0 0 rfl rfl)
theorem dX4_isWord_1 : decode cX4_isWord 1 = .ok (.getfield 182, 3) := dk_180 0 182 (dk_at dksX4_isWord_0 1 rfl rfl)
theorem dX4_isWord_4 : decode cX4_isWord 4 = .ok (.iconst 1, 1) := dk_4 (dk_at dksX4_isWord_0 4 rfl rfl)
theorem dX4_isWord_5 : decode cX4_isWord 5 = .ok (.iadd, 1) := dk_96 (dk_at dksX4_isWord_0 5 rfl rfl)
theorem dX4_isWord_6 : decode cX4_isWord 6 = .ok (.aload_n 0, 1) := dk_42 (dk_at dksX4_isWord_0 6 rfl rfl)
theorem dX4_isWord_7 : decode cX4_isWord 7 = .ok (.getfield 165, 3) := dk_180 0 165 (dk_at dksX4_isWord_0 7 rfl rfl)
theorem dX4_isWord_10 : decode cX4_isWord 10 = .ok (.if_icmp .ge 17, 3) := dk_162 0 17 (dk_at dksX4_isWord_0 10 rfl rfl)
theorem dX4_isWord_13 : decode cX4_isWord 13 = .ok (.aload_n 0, 1) := dk_42 (dk_at dksX4_isWord_0 13 rfl rfl)
theorem dX4_isWord_14 : decode cX4_isWord 14 = .ok (.getfield 25, 3) := dk_180 0 25 (dk_at dksX4_isWord_0 14 rfl rfl)
theorem dX4_isWord_17 : decode cX4_isWord 17 = .ok (.aload_n 0, 1) := dk_42 (dk_at dksX4_isWord_0 17 rfl rfl)
theorem dX4_isWord_18 : decode cX4_isWord 18 = .ok (.getfield 182, 3) := dk_180 0 182 (dk_at dksX4_isWord_0 18 rfl rfl)
theorem dX4_isWord_21 : decode cX4_isWord 21 = .ok (.iconst 1, 1) := dk_4 (dk_at dksX4_isWord_0 21 rfl rfl)
theorem dX4_isWord_22 : decode cX4_isWord 22 = .ok (.iadd, 1) := dk_96 (dk_at dksX4_isWord_0 22 rfl rfl)
theorem dX4_isWord_23 : decode cX4_isWord 23 = .ok (.caload, 1) := dk_52 (dk_at dksX4_isWord_0 23 rfl rfl)
theorem dX4_isWord_24 : decode cX4_isWord 24 = .ok (.goto 4, 3) := dk_167 0 4 (dk_at dksX4_isWord_1 0 rfl rfl)
theorem dX4_isWord_27 : decode cX4_isWord 27 = .ok (.iconst (-1), 1) := dk_2 (dk_at dksX4_isWord_1 3 rfl rfl)
theorem dX4_isWord_28 : decode cX4_isWord 28 = .ok (.istore_n 2, 1) := dk_61 (dk_at dksX4_isWord_1 4 rfl rfl)
theorem dX4_isWord_29 : decode cX4_isWord 29 = .ok (.iload_n 1, 1) := dk_27 (dk_at dksX4_isWord_1 5 rfl rfl)
theorem dX4_isWord_30 : decode cX4_isWord 30 = .ok (.invokestatic 192, 3) := dk_184 0 192 (dk_at dksX4_isWord_1 6 rfl rfl)
theorem dX4_isWord_33 : decode cX4_isWord 33 = .ok (.iconst 0, 1) := dk_3 (dk_at dksX4_isWord_1 9 rfl rfl)
theorem dX4_isWord_34 : decode cX4_isWord 34 = .ok (.invokevirtual 196, 3) := dk_182 0 196 (dk_at dksX4_isWord_1 10 rfl rfl)
theorem dX4_isWord_37 : decode cX4_isWord 37 = .ok (.aload_n 0, 1) := dk_42 (dk_at dksX4_isWord_1 13 rfl rfl)
theorem dX4_isWord_38 : decode cX4_isWord 38 = .ok (.invokevirtual 189, 3) := dk_182 0 189 (dk_at dksX4_isWord_1 14 rfl rfl)
theorem dX4_isWord_41 : decode cX4_isWord 41 = .ok (.if_icmp .ne 18, 3) := dk_160 0 18 (dk_at dksX4_isWord_1 17 rfl rfl)
theorem dX4_isWord_44 : decode cX4_isWord 44 = .ok (.iload_n 1, 1) := dk_27 (dk_at dksX4_isWord_1 20 rfl rfl)
theorem dX4_isWord_45 : decode cX4_isWord 45 = .ok (.iconst 3, 1) := dk_6 (dk_at dksX4_isWord_1 21 rfl rfl)
theorem dX4_isWord_46 : decode cX4_isWord 46 = .ok (.if_icmp .ne 9, 3) := dk_160 0 9 (dk_at dksX4_isWord_2 0 rfl rfl)
theorem dX4_isWord_49 : decode cX4_isWord 49 = .ok (.iload_n 2, 1) := dk_28 (dk_at dksX4_isWord_2 3 rfl rfl)
theorem dX4_isWord_50 : decode cX4_isWord 50 = .ok (.bipush 108, 2) := dk_16 108 (dk_at dksX4_isWord_2 4 rfl rfl)
theorem dX4_isWord_52 : decode cX4_isWord 52 = .ok (.if_icmp .eq 7, 3) := dk_159 0 7 (dk_at dksX4_isWord_2 6 rfl rfl)
theorem dX4_isWord_55 : decode cX4_isWord 55 = .ok (.iconst 1, 1) := dk_4 (dk_at dksX4_isWord_2 9 rfl rfl)
theorem dX4_isWord_56 : decode cX4_isWord 56 = .ok (.goto 4, 3) := dk_167 0 4 (dk_at dksX4_isWord_2 10 rfl rfl)
theorem dX4_isWord_59 : decode cX4_isWord 59 = .ok (.iconst 0, 1) := dk_3 (dk_at dksX4_isWord_2 13 rfl rfl)
theorem dX4_isWord_60 : decode cX4_isWord 60 = .ok (.ireturn, 1) := dk_172 (dk_at dksX4_isWord_2 14 rfl rfl)
abbrev cX4_word : ByteArray := prog_15_method_60_code
def yX4_word : MethodName := ⟨RX4, "word", "(I)Ljava/lang/String;"⟩
def dkwX4_word_2 : List UInt8 := [18, 168, 176, 18, 170, 176, 18, 172, 176, 18, 174, 176, 18, 176, 176, 18, 178, 176, 18, 180, 176]
abbrev dktX4_word_2 : List UInt8 := dkwX4_word_2 ++ []
def dkwX4_word_1 : List UInt8 := [170, 0, 0, 0, 0, 0, 57, 0, 0, 0, 0, 0, 0, 0, 5, 0, 0, 0, 39, 0, 0, 0, 42, 0, 0, 0, 45, 0, 0, 0, 48, 0, 0, 0, 51, 0, 0, 0, 54]
abbrev dktX4_word_1 : List UInt8 := dkwX4_word_1 ++ dktX4_word_2
def dkwX4_word_0 : List UInt8 := [26]
abbrev dktX4_word_0 : List UInt8 := dkwX4_word_0 ++ dktX4_word_1
theorem dksX4_word_0 : cX4_word.data.toList.drop 0 = dktX4_word_0 := by decide +kernel
theorem dksX4_word_1 : cX4_word.data.toList.drop 1 = dktX4_word_1 := dk_seg dksX4_word_0 1 rfl rfl
theorem dksX4_word_2 : cX4_word.data.toList.drop 40 = dktX4_word_2 := dk_seg dksX4_word_1 39 rfl rfl
theorem dX4_word_0 : decode cX4_word 0 = .ok (.iload_n 0, 1) := dk_26 (dk_at dksX4_word_0 0 rfl rfl)
theorem dX4_word_1 : decode cX4_word 1 = .ok (.tableswitch 57 0 5 #[39, 42, 45, 48, 51, 54], 39) := by decide +kernel
theorem dX4_word_40 : decode cX4_word 40 = .ok (.ldc 168, 2) := dk_18 168 (dk_at dksX4_word_2 0 rfl rfl)
theorem dX4_word_42 : decode cX4_word 42 = .ok (.areturn, 1) := dk_176 (dk_at dksX4_word_2 2 rfl rfl)
theorem dX4_word_43 : decode cX4_word 43 = .ok (.ldc 170, 2) := dk_18 170 (dk_at dksX4_word_2 3 rfl rfl)
theorem dX4_word_45 : decode cX4_word 45 = .ok (.areturn, 1) := dk_176 (dk_at dksX4_word_2 5 rfl rfl)
theorem dX4_word_46 : decode cX4_word 46 = .ok (.ldc 172, 2) := dk_18 172 (dk_at dksX4_word_2 6 rfl rfl)
theorem dX4_word_48 : decode cX4_word 48 = .ok (.areturn, 1) := dk_176 (dk_at dksX4_word_2 8 rfl rfl)
theorem dX4_word_49 : decode cX4_word 49 = .ok (.ldc 174, 2) := dk_18 174 (dk_at dksX4_word_2 9 rfl rfl)
theorem dX4_word_51 : decode cX4_word 51 = .ok (.areturn, 1) := dk_176 (dk_at dksX4_word_2 11 rfl rfl)
theorem dX4_word_52 : decode cX4_word 52 = .ok (.ldc 176, 2) := dk_18 176 (dk_at dksX4_word_2 12 rfl rfl)
theorem dX4_word_54 : decode cX4_word 54 = .ok (.areturn, 1) := dk_176 (dk_at dksX4_word_2 14 rfl rfl)
theorem dX4_word_55 : decode cX4_word 55 = .ok (.ldc 178, 2) := dk_18 178 (dk_at dksX4_word_2 15 rfl rfl)
theorem dX4_word_57 : decode cX4_word 57 = .ok (.areturn, 1) := dk_176 (dk_at dksX4_word_2 17 rfl rfl)
theorem dX4_word_58 : decode cX4_word 58 = .ok (.ldc 180, 2) := dk_18 180 (dk_at dksX4_word_2 18 rfl rfl)
theorem dX4_word_60 : decode cX4_word 60 = .ok (.areturn, 1) := dk_176 (dk_at dksX4_word_2 20 rfl rfl)
abbrev cX4_here : ByteArray := prog_15_method_61_code
def yX4_here : MethodName := ⟨RX4, "here", "()I"⟩
def dkwX4_here_1 : List UInt8 := [172]
abbrev dktX4_here_1 : List UInt8 := dkwX4_here_1 ++ []
def dkwX4_here_0 : List UInt8 := [42, 180, 0, 182, 42, 180, 0, 165, 162, 0, 15, 42, 180, 0, 25, 42, 180, 0, 182, 52, 167, 0, 4, 2]
abbrev dktX4_here_0 : List UInt8 := dkwX4_here_0 ++ dktX4_here_1
theorem dksX4_here_0 : cX4_here.data.toList.drop 0 = dktX4_here_0 := by decide +kernel
theorem dksX4_here_1 : cX4_here.data.toList.drop 24 = dktX4_here_1 := dk_seg dksX4_here_0 24 rfl rfl
theorem dX4_here_0 : decode cX4_here 0 = .ok (.aload_n 0, 1) := dk_42 (dk_at dksX4_here_0 0 rfl rfl)
theorem dX4_here_1 : decode cX4_here 1 = .ok (.getfield 182, 3) := dk_180 0 182 (dk_at dksX4_here_0 1 rfl rfl)
theorem dX4_here_4 : decode cX4_here 4 = .ok (.aload_n 0, 1) := dk_42 (dk_at dksX4_here_0 4 rfl rfl)
theorem dX4_here_5 : decode cX4_here 5 = .ok (.getfield 165, 3) := dk_180 0 165 (dk_at dksX4_here_0 5 rfl rfl)
theorem dX4_here_8 : decode cX4_here 8 = .ok (.if_icmp .ge 15, 3) := dk_162 0 15 (dk_at dksX4_here_0 8 rfl rfl)
theorem dX4_here_11 : decode cX4_here 11 = .ok (.aload_n 0, 1) := dk_42 (dk_at dksX4_here_0 11 rfl rfl)
theorem dX4_here_12 : decode cX4_here 12 = .ok (.getfield 25, 3) := dk_180 0 25 (dk_at dksX4_here_0 12 rfl rfl)
theorem dX4_here_15 : decode cX4_here 15 = .ok (.aload_n 0, 1) := dk_42 (dk_at dksX4_here_0 15 rfl rfl)
theorem dX4_here_16 : decode cX4_here 16 = .ok (.getfield 182, 3) := dk_180 0 182 (dk_at dksX4_here_0 16 rfl rfl)
theorem dX4_here_19 : decode cX4_here 19 = .ok (.caload, 1) := dk_52 (dk_at dksX4_here_0 19 rfl rfl)
theorem dX4_here_20 : decode cX4_here 20 = .ok (.goto 4, 3) := dk_167 0 4 (dk_at dksX4_here_0 20 rfl rfl)
theorem dX4_here_23 : decode cX4_here 23 = .ok (.iconst (-1), 1) := dk_2 (dk_at dksX4_here_0 23 rfl rfl)
theorem dX4_here_24 : decode cX4_here 24 = .ok (.ireturn, 1) := dk_172 (dk_at dksX4_here_1 0 rfl rfl)
abbrev cX4_needs : ByteArray := prog_15_method_62_code
def yX4_needs : MethodName := ⟨RX4, "needs", "(I)V"⟩
def dkwX4_needs_1 : List UInt8 := [42, 89, 180, 0, 182, 42, 180, 0, 185, 153, 0, 7, 3, 167, 0, 4, 4, 96, 181, 0, 182, 177]
abbrev dktX4_needs_1 : List UInt8 := dkwX4_needs_1 ++ []
def dkwX4_needs_0 : List UInt8 := [42, 42, 180, 0, 185, 154, 0, 11, 42, 182, 0, 189, 27, 159, 0, 7, 4, 167, 0, 4, 3, 181, 0, 185]
abbrev dktX4_needs_0 : List UInt8 := dkwX4_needs_0 ++ dktX4_needs_1
theorem dksX4_needs_0 : cX4_needs.data.toList.drop 0 = dktX4_needs_0 := by decide +kernel
theorem dksX4_needs_1 : cX4_needs.data.toList.drop 24 = dktX4_needs_1 := dk_seg dksX4_needs_0 24 rfl rfl
theorem dX4_needs_0 : decode cX4_needs 0 = .ok (.aload_n 0, 1) := dk_42 (dk_at dksX4_needs_0 0 rfl rfl)
theorem dX4_needs_1 : decode cX4_needs 1 = .ok (.aload_n 0, 1) := dk_42 (dk_at dksX4_needs_0 1 rfl rfl)
theorem dX4_needs_2 : decode cX4_needs 2 = .ok (.getfield 185, 3) := dk_180 0 185 (dk_at dksX4_needs_0 2 rfl rfl)
theorem dX4_needs_5 : decode cX4_needs 5 = .ok (.ifCond .ne 11, 3) := dk_154 0 11 (dk_at dksX4_needs_0 5 rfl rfl)
theorem dX4_needs_8 : decode cX4_needs 8 = .ok (.aload_n 0, 1) := dk_42 (dk_at dksX4_needs_0 8 rfl rfl)
theorem dX4_needs_9 : decode cX4_needs 9 = .ok (.invokevirtual 189, 3) := dk_182 0 189 (dk_at dksX4_needs_0 9 rfl rfl)
theorem dX4_needs_12 : decode cX4_needs 12 = .ok (.iload_n 1, 1) := dk_27 (dk_at dksX4_needs_0 12 rfl rfl)
theorem dX4_needs_13 : decode cX4_needs 13 = .ok (.if_icmp .eq 7, 3) := dk_159 0 7 (dk_at dksX4_needs_0 13 rfl rfl)
theorem dX4_needs_16 : decode cX4_needs 16 = .ok (.iconst 1, 1) := dk_4 (dk_at dksX4_needs_0 16 rfl rfl)
theorem dX4_needs_17 : decode cX4_needs 17 = .ok (.goto 4, 3) := dk_167 0 4 (dk_at dksX4_needs_0 17 rfl rfl)
theorem dX4_needs_20 : decode cX4_needs 20 = .ok (.iconst 0, 1) := dk_3 (dk_at dksX4_needs_0 20 rfl rfl)
theorem dX4_needs_21 : decode cX4_needs 21 = .ok (.putfield 185, 3) := dk_181 0 185 (dk_at dksX4_needs_0 21 rfl rfl)
theorem dX4_needs_24 : decode cX4_needs 24 = .ok (.aload_n 0, 1) := dk_42 (dk_at dksX4_needs_1 0 rfl rfl)
theorem dX4_needs_25 : decode cX4_needs 25 = .ok (.dup, 1) := dk_89 (dk_at dksX4_needs_1 1 rfl rfl)
theorem dX4_needs_26 : decode cX4_needs 26 = .ok (.getfield 182, 3) := dk_180 0 182 (dk_at dksX4_needs_1 2 rfl rfl)
theorem dX4_needs_29 : decode cX4_needs 29 = .ok (.aload_n 0, 1) := dk_42 (dk_at dksX4_needs_1 5 rfl rfl)
theorem dX4_needs_30 : decode cX4_needs 30 = .ok (.getfield 185, 3) := dk_180 0 185 (dk_at dksX4_needs_1 6 rfl rfl)
theorem dX4_needs_33 : decode cX4_needs 33 = .ok (.ifCond .eq 7, 3) := dk_153 0 7 (dk_at dksX4_needs_1 9 rfl rfl)
theorem dX4_needs_36 : decode cX4_needs 36 = .ok (.iconst 0, 1) := dk_3 (dk_at dksX4_needs_1 12 rfl rfl)
theorem dX4_needs_37 : decode cX4_needs 37 = .ok (.goto 4, 3) := dk_167 0 4 (dk_at dksX4_needs_1 13 rfl rfl)
theorem dX4_needs_40 : decode cX4_needs 40 = .ok (.iconst 1, 1) := dk_4 (dk_at dksX4_needs_1 16 rfl rfl)
theorem dX4_needs_41 : decode cX4_needs 41 = .ok (.iadd, 1) := dk_96 (dk_at dksX4_needs_1 17 rfl rfl)
theorem dX4_needs_42 : decode cX4_needs 42 = .ok (.putfield 182, 3) := dk_181 0 182 (dk_at dksX4_needs_1 18 rfl rfl)
theorem dX4_needs_45 : decode cX4_needs 45 = .ok (.return_, 1) := dk_177 (dk_at dksX4_needs_1 21 rfl rfl)
abbrev cX4_number : ByteArray := prog_15_method_67_code
def yX4_number : MethodName := ⟨RX4, "number", "()I"⟩
def dkwX4_number_1 : List UInt8 := [182, 0, 214, 153, 0, 15, 16, 10, 27, 104, 42, 182, 0, 211, 96, 167, 0, 4, 27, 172]
abbrev dktX4_number_1 : List UInt8 := dkwX4_number_1 ++ []
def dkwX4_number_0 : List UInt8 := [42, 182, 0, 211, 60, 42, 182, 0, 214, 153, 0, 13, 16, 10, 27, 104, 42, 182, 0, 211, 96, 60, 42]
abbrev dktX4_number_0 : List UInt8 := dkwX4_number_0 ++ dktX4_number_1
theorem dksX4_number_0 : cX4_number.data.toList.drop 0 = dktX4_number_0 := by decide +kernel
theorem dksX4_number_1 : cX4_number.data.toList.drop 23 = dktX4_number_1 := dk_seg dksX4_number_0 23 rfl rfl
theorem dX4_number_0 : decode cX4_number 0 = .ok (.aload_n 0, 1) := dk_42 (dk_at dksX4_number_0 0 rfl rfl)
theorem dX4_number_1 : decode cX4_number 1 = .ok (.invokevirtual 211, 3) := dk_182 0 211 (dk_at dksX4_number_0 1 rfl rfl)
theorem dX4_number_4 : decode cX4_number 4 = .ok (.istore_n 1, 1) := dk_60 (dk_at dksX4_number_0 4 rfl rfl)
theorem dX4_number_5 : decode cX4_number 5 = .ok (.aload_n 0, 1) := dk_42 (dk_at dksX4_number_0 5 rfl rfl)
theorem dX4_number_6 : decode cX4_number 6 = .ok (.invokevirtual 214, 3) := dk_182 0 214 (dk_at dksX4_number_0 6 rfl rfl)
theorem dX4_number_9 : decode cX4_number 9 = .ok (.ifCond .eq 13, 3) := dk_153 0 13 (dk_at dksX4_number_0 9 rfl rfl)
theorem dX4_number_12 : decode cX4_number 12 = .ok (.bipush 10, 2) := dk_16 10 (dk_at dksX4_number_0 12 rfl rfl)
theorem dX4_number_14 : decode cX4_number 14 = .ok (.iload_n 1, 1) := dk_27 (dk_at dksX4_number_0 14 rfl rfl)
theorem dX4_number_15 : decode cX4_number 15 = .ok (.imul, 1) := dk_104 (dk_at dksX4_number_0 15 rfl rfl)
theorem dX4_number_16 : decode cX4_number 16 = .ok (.aload_n 0, 1) := dk_42 (dk_at dksX4_number_0 16 rfl rfl)
theorem dX4_number_17 : decode cX4_number 17 = .ok (.invokevirtual 211, 3) := dk_182 0 211 (dk_at dksX4_number_0 17 rfl rfl)
theorem dX4_number_20 : decode cX4_number 20 = .ok (.iadd, 1) := dk_96 (dk_at dksX4_number_0 20 rfl rfl)
theorem dX4_number_21 : decode cX4_number 21 = .ok (.istore_n 1, 1) := dk_60 (dk_at dksX4_number_0 21 rfl rfl)
theorem dX4_number_22 : decode cX4_number 22 = .ok (.aload_n 0, 1) := dk_42 (dk_at dksX4_number_0 22 rfl rfl)
theorem dX4_number_23 : decode cX4_number 23 = .ok (.invokevirtual 214, 3) := dk_182 0 214 (dk_at dksX4_number_1 0 rfl rfl)
theorem dX4_number_26 : decode cX4_number 26 = .ok (.ifCond .eq 15, 3) := dk_153 0 15 (dk_at dksX4_number_1 3 rfl rfl)
theorem dX4_number_29 : decode cX4_number 29 = .ok (.bipush 10, 2) := dk_16 10 (dk_at dksX4_number_1 6 rfl rfl)
theorem dX4_number_31 : decode cX4_number 31 = .ok (.iload_n 1, 1) := dk_27 (dk_at dksX4_number_1 8 rfl rfl)
theorem dX4_number_32 : decode cX4_number 32 = .ok (.imul, 1) := dk_104 (dk_at dksX4_number_1 9 rfl rfl)
theorem dX4_number_33 : decode cX4_number 33 = .ok (.aload_n 0, 1) := dk_42 (dk_at dksX4_number_1 10 rfl rfl)
theorem dX4_number_34 : decode cX4_number 34 = .ok (.invokevirtual 211, 3) := dk_182 0 211 (dk_at dksX4_number_1 11 rfl rfl)
theorem dX4_number_37 : decode cX4_number 37 = .ok (.iadd, 1) := dk_96 (dk_at dksX4_number_1 14 rfl rfl)
theorem dX4_number_38 : decode cX4_number 38 = .ok (.goto 4, 3) := dk_167 0 4 (dk_at dksX4_number_1 15 rfl rfl)
theorem dX4_number_41 : decode cX4_number 41 = .ok (.iload_n 1, 1) := dk_27 (dk_at dksX4_number_1 18 rfl rfl)
theorem dX4_number_42 : decode cX4_number 42 = .ok (.ireturn, 1) := dk_172 (dk_at dksX4_number_1 19 rfl rfl)
abbrev cX4_digit : ByteArray := prog_15_method_66_code
def yX4_digit : MethodName := ⟨RX4, "digit", "()I"⟩
def dkwX4_digit_3 : List UInt8 := [172]
abbrev dktX4_digit_3 : List UInt8 := dkwX4_digit_3 ++ []
def dkwX4_digit_2 : List UInt8 := [100, 60, 42, 89, 180, 0, 182, 42, 180, 0, 185, 153, 0, 7, 3, 167, 0, 4, 4, 96, 181, 0, 182, 27]
abbrev dktX4_digit_2 : List UInt8 := dkwX4_digit_2 ++ dktX4_digit_3
def dkwX4_digit_1 : List UInt8 := [167, 0, 4, 3, 181, 0, 185, 42, 180, 0, 185, 153, 0, 7, 3, 167, 0, 10, 42, 182, 0, 189, 16, 48]
abbrev dktX4_digit_1 : List UInt8 := dkwX4_digit_1 ++ dktX4_digit_2
def dkwX4_digit_0 : List UInt8 := [42, 42, 180, 0, 185, 154, 0, 17, 42, 182, 0, 189, 16, 48, 16, 57, 184, 0, 68, 154, 0, 7, 4]
abbrev dktX4_digit_0 : List UInt8 := dkwX4_digit_0 ++ dktX4_digit_1
theorem dksX4_digit_0 : cX4_digit.data.toList.drop 0 = dktX4_digit_0 := by decide +kernel
theorem dksX4_digit_1 : cX4_digit.data.toList.drop 23 = dktX4_digit_1 := dk_seg dksX4_digit_0 23 rfl rfl
theorem dksX4_digit_2 : cX4_digit.data.toList.drop 47 = dktX4_digit_2 := dk_seg dksX4_digit_1 24 rfl rfl
theorem dksX4_digit_3 : cX4_digit.data.toList.drop 71 = dktX4_digit_3 := dk_seg dksX4_digit_2 24 rfl rfl
theorem dX4_digit_0 : decode cX4_digit 0 = .ok (.aload_n 0, 1) := dk_42 (dk_at dksX4_digit_0 0 rfl rfl)
theorem dX4_digit_1 : decode cX4_digit 1 = .ok (.aload_n 0, 1) := dk_42 (dk_at dksX4_digit_0 1 rfl rfl)
theorem dX4_digit_2 : decode cX4_digit 2 = .ok (.getfield 185, 3) := dk_180 0 185 (dk_at dksX4_digit_0 2 rfl rfl)
theorem dX4_digit_5 : decode cX4_digit 5 = .ok (.ifCond .ne 17, 3) := dk_154 0 17 (dk_at dksX4_digit_0 5 rfl rfl)
theorem dX4_digit_8 : decode cX4_digit 8 = .ok (.aload_n 0, 1) := dk_42 (dk_at dksX4_digit_0 8 rfl rfl)
theorem dX4_digit_9 : decode cX4_digit 9 = .ok (.invokevirtual 189, 3) := dk_182 0 189 (dk_at dksX4_digit_0 9 rfl rfl)
theorem dX4_digit_12 : decode cX4_digit 12 = .ok (.bipush 48, 2) := dk_16 48 (dk_at dksX4_digit_0 12 rfl rfl)
theorem dX4_digit_14 : decode cX4_digit 14 = .ok (.bipush 57, 2) := dk_16 57 (dk_at dksX4_digit_0 14 rfl rfl)
theorem dX4_digit_16 : decode cX4_digit 16 = .ok (.invokestatic 68, 3) := dk_184 0 68 (dk_at dksX4_digit_0 16 rfl rfl)
theorem dX4_digit_19 : decode cX4_digit 19 = .ok (.ifCond .ne 7, 3) := dk_154 0 7 (dk_at dksX4_digit_0 19 rfl rfl)
theorem dX4_digit_22 : decode cX4_digit 22 = .ok (.iconst 1, 1) := dk_4 (dk_at dksX4_digit_0 22 rfl rfl)
theorem dX4_digit_23 : decode cX4_digit 23 = .ok (.goto 4, 3) := dk_167 0 4 (dk_at dksX4_digit_1 0 rfl rfl)
theorem dX4_digit_26 : decode cX4_digit 26 = .ok (.iconst 0, 1) := dk_3 (dk_at dksX4_digit_1 3 rfl rfl)
theorem dX4_digit_27 : decode cX4_digit 27 = .ok (.putfield 185, 3) := dk_181 0 185 (dk_at dksX4_digit_1 4 rfl rfl)
theorem dX4_digit_30 : decode cX4_digit 30 = .ok (.aload_n 0, 1) := dk_42 (dk_at dksX4_digit_1 7 rfl rfl)
theorem dX4_digit_31 : decode cX4_digit 31 = .ok (.getfield 185, 3) := dk_180 0 185 (dk_at dksX4_digit_1 8 rfl rfl)
theorem dX4_digit_34 : decode cX4_digit 34 = .ok (.ifCond .eq 7, 3) := dk_153 0 7 (dk_at dksX4_digit_1 11 rfl rfl)
theorem dX4_digit_37 : decode cX4_digit 37 = .ok (.iconst 0, 1) := dk_3 (dk_at dksX4_digit_1 14 rfl rfl)
theorem dX4_digit_38 : decode cX4_digit 38 = .ok (.goto 10, 3) := dk_167 0 10 (dk_at dksX4_digit_1 15 rfl rfl)
theorem dX4_digit_41 : decode cX4_digit 41 = .ok (.aload_n 0, 1) := dk_42 (dk_at dksX4_digit_1 18 rfl rfl)
theorem dX4_digit_42 : decode cX4_digit 42 = .ok (.invokevirtual 189, 3) := dk_182 0 189 (dk_at dksX4_digit_1 19 rfl rfl)
theorem dX4_digit_45 : decode cX4_digit 45 = .ok (.bipush 48, 2) := dk_16 48 (dk_at dksX4_digit_1 22 rfl rfl)
theorem dX4_digit_47 : decode cX4_digit 47 = .ok (.isub, 1) := dk_100 (dk_at dksX4_digit_2 0 rfl rfl)
theorem dX4_digit_48 : decode cX4_digit 48 = .ok (.istore_n 1, 1) := dk_60 (dk_at dksX4_digit_2 1 rfl rfl)
theorem dX4_digit_49 : decode cX4_digit 49 = .ok (.aload_n 0, 1) := dk_42 (dk_at dksX4_digit_2 2 rfl rfl)
theorem dX4_digit_50 : decode cX4_digit 50 = .ok (.dup, 1) := dk_89 (dk_at dksX4_digit_2 3 rfl rfl)
theorem dX4_digit_51 : decode cX4_digit 51 = .ok (.getfield 182, 3) := dk_180 0 182 (dk_at dksX4_digit_2 4 rfl rfl)
theorem dX4_digit_54 : decode cX4_digit 54 = .ok (.aload_n 0, 1) := dk_42 (dk_at dksX4_digit_2 7 rfl rfl)
theorem dX4_digit_55 : decode cX4_digit 55 = .ok (.getfield 185, 3) := dk_180 0 185 (dk_at dksX4_digit_2 8 rfl rfl)
theorem dX4_digit_58 : decode cX4_digit 58 = .ok (.ifCond .eq 7, 3) := dk_153 0 7 (dk_at dksX4_digit_2 11 rfl rfl)
theorem dX4_digit_61 : decode cX4_digit 61 = .ok (.iconst 0, 1) := dk_3 (dk_at dksX4_digit_2 14 rfl rfl)
theorem dX4_digit_62 : decode cX4_digit 62 = .ok (.goto 4, 3) := dk_167 0 4 (dk_at dksX4_digit_2 15 rfl rfl)
theorem dX4_digit_65 : decode cX4_digit 65 = .ok (.iconst 1, 1) := dk_4 (dk_at dksX4_digit_2 18 rfl rfl)
theorem dX4_digit_66 : decode cX4_digit 66 = .ok (.iadd, 1) := dk_96 (dk_at dksX4_digit_2 19 rfl rfl)
theorem dX4_digit_67 : decode cX4_digit 67 = .ok (.putfield 182, 3) := dk_181 0 182 (dk_at dksX4_digit_2 20 rfl rfl)
theorem dX4_digit_70 : decode cX4_digit 70 = .ok (.iload_n 1, 1) := dk_27 (dk_at dksX4_digit_2 23 rfl rfl)
theorem dX4_digit_71 : decode cX4_digit 71 = .ok (.ireturn, 1) := dk_172 (dk_at dksX4_digit_3 0 rfl rfl)
abbrev cX4_isDigit : ByteArray := prog_15_method_65_code
def yX4_isDigit : MethodName := ⟨RX4, "isDigit", "()Z"⟩
def dkwX4_isDigit_1 : List UInt8 := [167, 0, 4, 3, 172]
abbrev dktX4_isDigit_1 : List UInt8 := dkwX4_isDigit_1 ++ []
def dkwX4_isDigit_0 : List UInt8 := [42, 180, 0, 185, 154, 0, 21, 42, 182, 0, 189, 16, 48, 16, 57, 184, 0, 68, 153, 0, 7, 4]
abbrev dktX4_isDigit_0 : List UInt8 := dkwX4_isDigit_0 ++ dktX4_isDigit_1
theorem dksX4_isDigit_0 : cX4_isDigit.data.toList.drop 0 = dktX4_isDigit_0 := by decide +kernel
theorem dksX4_isDigit_1 : cX4_isDigit.data.toList.drop 22 = dktX4_isDigit_1 := dk_seg dksX4_isDigit_0 22 rfl rfl
theorem dX4_isDigit_0 : decode cX4_isDigit 0 = .ok (.aload_n 0, 1) := dk_42 (dk_at dksX4_isDigit_0 0 rfl rfl)
theorem dX4_isDigit_1 : decode cX4_isDigit 1 = .ok (.getfield 185, 3) := dk_180 0 185 (dk_at dksX4_isDigit_0 1 rfl rfl)
theorem dX4_isDigit_4 : decode cX4_isDigit 4 = .ok (.ifCond .ne 21, 3) := dk_154 0 21 (dk_at dksX4_isDigit_0 4 rfl rfl)
theorem dX4_isDigit_7 : decode cX4_isDigit 7 = .ok (.aload_n 0, 1) := dk_42 (dk_at dksX4_isDigit_0 7 rfl rfl)
theorem dX4_isDigit_8 : decode cX4_isDigit 8 = .ok (.invokevirtual 189, 3) := dk_182 0 189 (dk_at dksX4_isDigit_0 8 rfl rfl)
theorem dX4_isDigit_11 : decode cX4_isDigit 11 = .ok (.bipush 48, 2) := dk_16 48 (dk_at dksX4_isDigit_0 11 rfl rfl)
theorem dX4_isDigit_13 : decode cX4_isDigit 13 = .ok (.bipush 57, 2) := dk_16 57 (dk_at dksX4_isDigit_0 13 rfl rfl)
theorem dX4_isDigit_15 : decode cX4_isDigit 15 = .ok (.invokestatic 68, 3) := dk_184 0 68 (dk_at dksX4_isDigit_0 15 rfl rfl)
theorem dX4_isDigit_18 : decode cX4_isDigit 18 = .ok (.ifCond .eq 7, 3) := dk_153 0 7 (dk_at dksX4_isDigit_0 18 rfl rfl)
theorem dX4_isDigit_21 : decode cX4_isDigit 21 = .ok (.iconst 1, 1) := dk_4 (dk_at dksX4_isDigit_0 21 rfl rfl)
theorem dX4_isDigit_22 : decode cX4_isDigit 22 = .ok (.goto 4, 3) := dk_167 0 4 (dk_at dksX4_isDigit_1 0 rfl rfl)
theorem dX4_isDigit_25 : decode cX4_isDigit 25 = .ok (.iconst 0, 1) := dk_3 (dk_at dksX4_isDigit_1 3 rfl rfl)
theorem dX4_isDigit_26 : decode cX4_isDigit 26 = .ok (.ireturn, 1) := dk_172 (dk_at dksX4_isDigit_1 4 rfl rfl)
abbrev cX4_signedNumber : ByteArray := prog_15_method_68_code
def yX4_signedNumber : MethodName := ⟨RX4, "signedNumber", "()I"⟩
def dkwX4_signedNumber_2 : List UInt8 := [153, 0, 8, 28, 116, 167, 0, 4, 28, 172]
abbrev dktX4_signedNumber_2 : List UInt8 := dkwX4_signedNumber_2 ++ []
def dkwX4_signedNumber_1 : List UInt8 := [180, 0, 182, 27, 153, 0, 7, 4, 167, 0, 4, 3, 96, 181, 0, 182, 42, 182, 0, 218, 61, 27]
abbrev dktX4_signedNumber_1 : List UInt8 := dkwX4_signedNumber_1 ++ dktX4_signedNumber_2
def dkwX4_signedNumber_0 : List UInt8 := [42, 180, 0, 185, 154, 0, 16, 42, 182, 0, 189, 16, 45, 160, 0, 7, 4, 167, 0, 4, 3, 60, 42, 89]
abbrev dktX4_signedNumber_0 : List UInt8 := dkwX4_signedNumber_0 ++ dktX4_signedNumber_1
theorem dksX4_signedNumber_0 : cX4_signedNumber.data.toList.drop 0 = dktX4_signedNumber_0 := by decide +kernel
theorem dksX4_signedNumber_1 : cX4_signedNumber.data.toList.drop 24 = dktX4_signedNumber_1 := dk_seg dksX4_signedNumber_0 24 rfl rfl
theorem dksX4_signedNumber_2 : cX4_signedNumber.data.toList.drop 46 = dktX4_signedNumber_2 := dk_seg dksX4_signedNumber_1 22 rfl rfl
theorem dX4_signedNumber_0 : decode cX4_signedNumber 0 = .ok (.aload_n 0, 1) := dk_42 (dk_at dksX4_signedNumber_0 0 rfl rfl)
theorem dX4_signedNumber_1 : decode cX4_signedNumber 1 = .ok (.getfield 185, 3) := dk_180 0 185 (dk_at dksX4_signedNumber_0 1 rfl rfl)
theorem dX4_signedNumber_4 : decode cX4_signedNumber 4 = .ok (.ifCond .ne 16, 3) := dk_154 0 16 (dk_at dksX4_signedNumber_0 4 rfl rfl)
theorem dX4_signedNumber_7 : decode cX4_signedNumber 7 = .ok (.aload_n 0, 1) := dk_42 (dk_at dksX4_signedNumber_0 7 rfl rfl)
theorem dX4_signedNumber_8 : decode cX4_signedNumber 8 = .ok (.invokevirtual 189, 3) := dk_182 0 189 (dk_at dksX4_signedNumber_0 8 rfl rfl)
theorem dX4_signedNumber_11 : decode cX4_signedNumber 11 = .ok (.bipush 45, 2) := dk_16 45 (dk_at dksX4_signedNumber_0 11 rfl rfl)
theorem dX4_signedNumber_13 : decode cX4_signedNumber 13 = .ok (.if_icmp .ne 7, 3) := dk_160 0 7 (dk_at dksX4_signedNumber_0 13 rfl rfl)
theorem dX4_signedNumber_16 : decode cX4_signedNumber 16 = .ok (.iconst 1, 1) := dk_4 (dk_at dksX4_signedNumber_0 16 rfl rfl)
theorem dX4_signedNumber_17 : decode cX4_signedNumber 17 = .ok (.goto 4, 3) := dk_167 0 4 (dk_at dksX4_signedNumber_0 17 rfl rfl)
theorem dX4_signedNumber_20 : decode cX4_signedNumber 20 = .ok (.iconst 0, 1) := dk_3 (dk_at dksX4_signedNumber_0 20 rfl rfl)
theorem dX4_signedNumber_21 : decode cX4_signedNumber 21 = .ok (.istore_n 1, 1) := dk_60 (dk_at dksX4_signedNumber_0 21 rfl rfl)
theorem dX4_signedNumber_22 : decode cX4_signedNumber 22 = .ok (.aload_n 0, 1) := dk_42 (dk_at dksX4_signedNumber_0 22 rfl rfl)
theorem dX4_signedNumber_23 : decode cX4_signedNumber 23 = .ok (.dup, 1) := dk_89 (dk_at dksX4_signedNumber_0 23 rfl rfl)
theorem dX4_signedNumber_24 : decode cX4_signedNumber 24 = .ok (.getfield 182, 3) := dk_180 0 182 (dk_at dksX4_signedNumber_1 0 rfl rfl)
theorem dX4_signedNumber_27 : decode cX4_signedNumber 27 = .ok (.iload_n 1, 1) := dk_27 (dk_at dksX4_signedNumber_1 3 rfl rfl)
theorem dX4_signedNumber_28 : decode cX4_signedNumber 28 = .ok (.ifCond .eq 7, 3) := dk_153 0 7 (dk_at dksX4_signedNumber_1 4 rfl rfl)
theorem dX4_signedNumber_31 : decode cX4_signedNumber 31 = .ok (.iconst 1, 1) := dk_4 (dk_at dksX4_signedNumber_1 7 rfl rfl)
theorem dX4_signedNumber_32 : decode cX4_signedNumber 32 = .ok (.goto 4, 3) := dk_167 0 4 (dk_at dksX4_signedNumber_1 8 rfl rfl)
theorem dX4_signedNumber_35 : decode cX4_signedNumber 35 = .ok (.iconst 0, 1) := dk_3 (dk_at dksX4_signedNumber_1 11 rfl rfl)
theorem dX4_signedNumber_36 : decode cX4_signedNumber 36 = .ok (.iadd, 1) := dk_96 (dk_at dksX4_signedNumber_1 12 rfl rfl)
theorem dX4_signedNumber_37 : decode cX4_signedNumber 37 = .ok (.putfield 182, 3) := dk_181 0 182 (dk_at dksX4_signedNumber_1 13 rfl rfl)
theorem dX4_signedNumber_40 : decode cX4_signedNumber 40 = .ok (.aload_n 0, 1) := dk_42 (dk_at dksX4_signedNumber_1 16 rfl rfl)
theorem dX4_signedNumber_41 : decode cX4_signedNumber 41 = .ok (.invokevirtual 218, 3) := dk_182 0 218 (dk_at dksX4_signedNumber_1 17 rfl rfl)
theorem dX4_signedNumber_44 : decode cX4_signedNumber 44 = .ok (.istore_n 2, 1) := dk_61 (dk_at dksX4_signedNumber_1 20 rfl rfl)
theorem dX4_signedNumber_45 : decode cX4_signedNumber 45 = .ok (.iload_n 1, 1) := dk_27 (dk_at dksX4_signedNumber_1 21 rfl rfl)
theorem dX4_signedNumber_46 : decode cX4_signedNumber 46 = .ok (.ifCond .eq 8, 3) := dk_153 0 8 (dk_at dksX4_signedNumber_2 0 rfl rfl)
theorem dX4_signedNumber_49 : decode cX4_signedNumber 49 = .ok (.iload_n 2, 1) := dk_28 (dk_at dksX4_signedNumber_2 3 rfl rfl)
theorem dX4_signedNumber_50 : decode cX4_signedNumber 50 = .ok (.ineg, 1) := dk_116 (dk_at dksX4_signedNumber_2 4 rfl rfl)
theorem dX4_signedNumber_51 : decode cX4_signedNumber 51 = .ok (.goto 4, 3) := dk_167 0 4 (dk_at dksX4_signedNumber_2 5 rfl rfl)
theorem dX4_signedNumber_54 : decode cX4_signedNumber 54 = .ok (.iload_n 2, 1) := dk_28 (dk_at dksX4_signedNumber_2 8 rfl rfl)
theorem dX4_signedNumber_55 : decode cX4_signedNumber 55 = .ok (.ireturn, 1) := dk_172 (dk_at dksX4_signedNumber_2 9 rfl rfl)
abbrev cX4_does : ByteArray := prog_15_method_71_code
def yX4_does : MethodName := ⟨RX4, "does", "(I)I"⟩
def dkwX4_does_4 : List UInt8 := [96, 46, 182, 0, 134, 172, 42, 28, 182, 0, 137, 172]
abbrev dktX4_does_4 : List UInt8 := dkwX4_does_4 ++ []
def dkwX4_does_3 : List UInt8 := [182, 0, 146, 172, 42, 28, 3, 182, 0, 146, 172, 42, 182, 0, 156, 172, 42, 28, 42, 180, 0, 36, 27, 5]
abbrev dktX4_does_3 : List UInt8 := dkwX4_does_3 ++ dktX4_does_4
def dkwX4_does_2 : List UInt8 := [42, 28, 182, 0, 125, 172, 42, 28, 42, 180, 0, 36, 27, 5, 96, 46, 182, 0, 131, 172, 42, 28, 4]
abbrev dktX4_does_2 : List UInt8 := dkwX4_does_2 ++ dktX4_does_3
def dkwX4_does_1 : List UInt8 := [170, 0, 0, 0, 90, 0, 0, 0, 0, 0, 0, 0, 5, 0, 0, 0, 37, 0, 0, 0, 43, 0, 0, 0, 57, 0, 0, 0, 64, 0, 0, 0, 71, 0, 0, 0, 76]
abbrev dktX4_does_1 : List UInt8 := dkwX4_does_1 ++ dktX4_does_2
def dkwX4_does_0 : List UInt8 := [42, 180, 0, 36, 27, 4, 96, 46, 61, 42, 180, 0, 36, 27, 46]
abbrev dktX4_does_0 : List UInt8 := dkwX4_does_0 ++ dktX4_does_1
theorem dksX4_does_0 : cX4_does.data.toList.drop 0 = dktX4_does_0 := by decide +kernel
theorem dksX4_does_1 : cX4_does.data.toList.drop 15 = dktX4_does_1 := dk_seg dksX4_does_0 15 rfl rfl
theorem dksX4_does_2 : cX4_does.data.toList.drop 52 = dktX4_does_2 := dk_seg dksX4_does_1 37 rfl rfl
theorem dksX4_does_3 : cX4_does.data.toList.drop 75 = dktX4_does_3 := dk_seg dksX4_does_2 23 rfl rfl
theorem dksX4_does_4 : cX4_does.data.toList.drop 99 = dktX4_does_4 := dk_seg dksX4_does_3 24 rfl rfl
theorem dX4_does_0 : decode cX4_does 0 = .ok (.aload_n 0, 1) := dk_42 (dk_at dksX4_does_0 0 rfl rfl)
theorem dX4_does_1 : decode cX4_does 1 = .ok (.getfield 36, 3) := dk_180 0 36 (dk_at dksX4_does_0 1 rfl rfl)
theorem dX4_does_4 : decode cX4_does 4 = .ok (.iload_n 1, 1) := dk_27 (dk_at dksX4_does_0 4 rfl rfl)
theorem dX4_does_5 : decode cX4_does 5 = .ok (.iconst 1, 1) := dk_4 (dk_at dksX4_does_0 5 rfl rfl)
theorem dX4_does_6 : decode cX4_does 6 = .ok (.iadd, 1) := dk_96 (dk_at dksX4_does_0 6 rfl rfl)
theorem dX4_does_7 : decode cX4_does 7 = .ok (.iaload, 1) := dk_46 (dk_at dksX4_does_0 7 rfl rfl)
theorem dX4_does_8 : decode cX4_does 8 = .ok (.istore_n 2, 1) := dk_61 (dk_at dksX4_does_0 8 rfl rfl)
theorem dX4_does_9 : decode cX4_does 9 = .ok (.aload_n 0, 1) := dk_42 (dk_at dksX4_does_0 9 rfl rfl)
theorem dX4_does_10 : decode cX4_does 10 = .ok (.getfield 36, 3) := dk_180 0 36 (dk_at dksX4_does_0 10 rfl rfl)
theorem dX4_does_13 : decode cX4_does 13 = .ok (.iload_n 1, 1) := dk_27 (dk_at dksX4_does_0 13 rfl rfl)
theorem dX4_does_14 : decode cX4_does 14 = .ok (.iaload, 1) := dk_46 (dk_at dksX4_does_0 14 rfl rfl)
theorem dX4_does_15 : decode cX4_does 15 = .ok (.tableswitch 90 0 5 #[37, 43, 57, 64, 71, 76], 37) := by decide +kernel
theorem dX4_does_52 : decode cX4_does 52 = .ok (.aload_n 0, 1) := dk_42 (dk_at dksX4_does_2 0 rfl rfl)
theorem dX4_does_53 : decode cX4_does 53 = .ok (.iload_n 2, 1) := dk_28 (dk_at dksX4_does_2 1 rfl rfl)
theorem dX4_does_54 : decode cX4_does 54 = .ok (.invokevirtual 125, 3) := dk_182 0 125 (dk_at dksX4_does_2 2 rfl rfl)
theorem dX4_does_57 : decode cX4_does 57 = .ok (.ireturn, 1) := dk_172 (dk_at dksX4_does_2 5 rfl rfl)
theorem dX4_does_58 : decode cX4_does 58 = .ok (.aload_n 0, 1) := dk_42 (dk_at dksX4_does_2 6 rfl rfl)
theorem dX4_does_59 : decode cX4_does 59 = .ok (.iload_n 2, 1) := dk_28 (dk_at dksX4_does_2 7 rfl rfl)
theorem dX4_does_60 : decode cX4_does 60 = .ok (.aload_n 0, 1) := dk_42 (dk_at dksX4_does_2 8 rfl rfl)
theorem dX4_does_61 : decode cX4_does 61 = .ok (.getfield 36, 3) := dk_180 0 36 (dk_at dksX4_does_2 9 rfl rfl)
theorem dX4_does_64 : decode cX4_does 64 = .ok (.iload_n 1, 1) := dk_27 (dk_at dksX4_does_2 12 rfl rfl)
theorem dX4_does_65 : decode cX4_does 65 = .ok (.iconst 2, 1) := dk_5 (dk_at dksX4_does_2 13 rfl rfl)
theorem dX4_does_66 : decode cX4_does 66 = .ok (.iadd, 1) := dk_96 (dk_at dksX4_does_2 14 rfl rfl)
theorem dX4_does_67 : decode cX4_does 67 = .ok (.iaload, 1) := dk_46 (dk_at dksX4_does_2 15 rfl rfl)
theorem dX4_does_68 : decode cX4_does 68 = .ok (.invokevirtual 131, 3) := dk_182 0 131 (dk_at dksX4_does_2 16 rfl rfl)
theorem dX4_does_71 : decode cX4_does 71 = .ok (.ireturn, 1) := dk_172 (dk_at dksX4_does_2 19 rfl rfl)
theorem dX4_does_72 : decode cX4_does 72 = .ok (.aload_n 0, 1) := dk_42 (dk_at dksX4_does_2 20 rfl rfl)
theorem dX4_does_73 : decode cX4_does 73 = .ok (.iload_n 2, 1) := dk_28 (dk_at dksX4_does_2 21 rfl rfl)
theorem dX4_does_74 : decode cX4_does 74 = .ok (.iconst 1, 1) := dk_4 (dk_at dksX4_does_2 22 rfl rfl)
theorem dX4_does_75 : decode cX4_does 75 = .ok (.invokevirtual 146, 3) := dk_182 0 146 (dk_at dksX4_does_3 0 rfl rfl)
theorem dX4_does_78 : decode cX4_does 78 = .ok (.ireturn, 1) := dk_172 (dk_at dksX4_does_3 3 rfl rfl)
theorem dX4_does_79 : decode cX4_does 79 = .ok (.aload_n 0, 1) := dk_42 (dk_at dksX4_does_3 4 rfl rfl)
theorem dX4_does_80 : decode cX4_does 80 = .ok (.iload_n 2, 1) := dk_28 (dk_at dksX4_does_3 5 rfl rfl)
theorem dX4_does_81 : decode cX4_does 81 = .ok (.iconst 0, 1) := dk_3 (dk_at dksX4_does_3 6 rfl rfl)
theorem dX4_does_82 : decode cX4_does 82 = .ok (.invokevirtual 146, 3) := dk_182 0 146 (dk_at dksX4_does_3 7 rfl rfl)
theorem dX4_does_85 : decode cX4_does 85 = .ok (.ireturn, 1) := dk_172 (dk_at dksX4_does_3 10 rfl rfl)
theorem dX4_does_86 : decode cX4_does 86 = .ok (.aload_n 0, 1) := dk_42 (dk_at dksX4_does_3 11 rfl rfl)
theorem dX4_does_87 : decode cX4_does 87 = .ok (.invokevirtual 156, 3) := dk_182 0 156 (dk_at dksX4_does_3 12 rfl rfl)
theorem dX4_does_90 : decode cX4_does 90 = .ok (.ireturn, 1) := dk_172 (dk_at dksX4_does_3 15 rfl rfl)
theorem dX4_does_91 : decode cX4_does 91 = .ok (.aload_n 0, 1) := dk_42 (dk_at dksX4_does_3 16 rfl rfl)
theorem dX4_does_92 : decode cX4_does 92 = .ok (.iload_n 2, 1) := dk_28 (dk_at dksX4_does_3 17 rfl rfl)
theorem dX4_does_93 : decode cX4_does 93 = .ok (.aload_n 0, 1) := dk_42 (dk_at dksX4_does_3 18 rfl rfl)
theorem dX4_does_94 : decode cX4_does 94 = .ok (.getfield 36, 3) := dk_180 0 36 (dk_at dksX4_does_3 19 rfl rfl)
theorem dX4_does_97 : decode cX4_does 97 = .ok (.iload_n 1, 1) := dk_27 (dk_at dksX4_does_3 22 rfl rfl)
theorem dX4_does_98 : decode cX4_does 98 = .ok (.iconst 2, 1) := dk_5 (dk_at dksX4_does_3 23 rfl rfl)
theorem dX4_does_99 : decode cX4_does 99 = .ok (.iadd, 1) := dk_96 (dk_at dksX4_does_4 0 rfl rfl)
theorem dX4_does_100 : decode cX4_does 100 = .ok (.iaload, 1) := dk_46 (dk_at dksX4_does_4 1 rfl rfl)
theorem dX4_does_101 : decode cX4_does 101 = .ok (.invokevirtual 134, 3) := dk_182 0 134 (dk_at dksX4_does_4 2 rfl rfl)
theorem dX4_does_104 : decode cX4_does 104 = .ok (.ireturn, 1) := dk_172 (dk_at dksX4_does_4 5 rfl rfl)
theorem dX4_does_105 : decode cX4_does 105 = .ok (.aload_n 0, 1) := dk_42 (dk_at dksX4_does_4 6 rfl rfl)
theorem dX4_does_106 : decode cX4_does 106 = .ok (.iload_n 2, 1) := dk_28 (dk_at dksX4_does_4 7 rfl rfl)
theorem dX4_does_107 : decode cX4_does 107 = .ok (.invokevirtual 137, 3) := dk_182 0 137 (dk_at dksX4_does_4 8 rfl rfl)
theorem dX4_does_110 : decode cX4_does 110 = .ok (.ireturn, 1) := dk_172 (dk_at dksX4_does_4 11 rfl rfl)
abbrev cX4_faultPosition : ByteArray := prog_15_method_73_code
def yX4_faultPosition : MethodName := ⟨RX4, "faultPosition", "()I"⟩
def dkwX4_faultPosition_1 : List UInt8 := [172]
abbrev dktX4_faultPosition_1 : List UInt8 := dkwX4_faultPosition_1 ++ []
def dkwX4_faultPosition_0 : List UInt8 := [42, 180, 0, 29, 2, 160, 0, 11, 42, 4, 182, 0, 57, 167, 0, 11, 42, 42, 180, 0, 29, 182, 0, 119]
abbrev dktX4_faultPosition_0 : List UInt8 := dkwX4_faultPosition_0 ++ dktX4_faultPosition_1
theorem dksX4_faultPosition_0 : cX4_faultPosition.data.toList.drop 0 = dktX4_faultPosition_0 := by decide +kernel
theorem dksX4_faultPosition_1 : cX4_faultPosition.data.toList.drop 24 = dktX4_faultPosition_1 := dk_seg dksX4_faultPosition_0 24 rfl rfl
theorem dX4_faultPosition_0 : decode cX4_faultPosition 0 = .ok (.aload_n 0, 1) := dk_42 (dk_at dksX4_faultPosition_0 0 rfl rfl)
theorem dX4_faultPosition_1 : decode cX4_faultPosition 1 = .ok (.getfield 29, 3) := dk_180 0 29 (dk_at dksX4_faultPosition_0 1 rfl rfl)
theorem dX4_faultPosition_4 : decode cX4_faultPosition 4 = .ok (.iconst (-1), 1) := dk_2 (dk_at dksX4_faultPosition_0 4 rfl rfl)
theorem dX4_faultPosition_5 : decode cX4_faultPosition 5 = .ok (.if_icmp .ne 11, 3) := dk_160 0 11 (dk_at dksX4_faultPosition_0 5 rfl rfl)
theorem dX4_faultPosition_8 : decode cX4_faultPosition 8 = .ok (.aload_n 0, 1) := dk_42 (dk_at dksX4_faultPosition_0 8 rfl rfl)
theorem dX4_faultPosition_9 : decode cX4_faultPosition 9 = .ok (.iconst 1, 1) := dk_4 (dk_at dksX4_faultPosition_0 9 rfl rfl)
theorem dX4_faultPosition_10 : decode cX4_faultPosition 10 = .ok (.invokevirtual 57, 3) := dk_182 0 57 (dk_at dksX4_faultPosition_0 10 rfl rfl)
theorem dX4_faultPosition_13 : decode cX4_faultPosition 13 = .ok (.goto 11, 3) := dk_167 0 11 (dk_at dksX4_faultPosition_0 13 rfl rfl)
theorem dX4_faultPosition_16 : decode cX4_faultPosition 16 = .ok (.aload_n 0, 1) := dk_42 (dk_at dksX4_faultPosition_0 16 rfl rfl)
theorem dX4_faultPosition_17 : decode cX4_faultPosition 17 = .ok (.aload_n 0, 1) := dk_42 (dk_at dksX4_faultPosition_0 17 rfl rfl)
theorem dX4_faultPosition_18 : decode cX4_faultPosition 18 = .ok (.getfield 29, 3) := dk_180 0 29 (dk_at dksX4_faultPosition_0 18 rfl rfl)
theorem dX4_faultPosition_21 : decode cX4_faultPosition 21 = .ok (.invokevirtual 119, 3) := dk_182 0 119 (dk_at dksX4_faultPosition_0 21 rfl rfl)
theorem dX4_faultPosition_24 : decode cX4_faultPosition 24 = .ok (.ireturn, 1) := dk_172 (dk_at dksX4_faultPosition_1 0 rfl rfl)
abbrev cX4_reason : ByteArray := prog_15_method_74_code
def yX4_reason : MethodName := ⟨RX4, "reason", "(ZZ)I"⟩
def dkwX4_reason_2 : List UInt8 := [42, 28, 153, 0, 10, 42, 180, 0, 48, 167, 0, 7, 42, 180, 0, 45, 182, 0, 119, 172]
abbrev dktX4_reason_2 : List UInt8 := dkwX4_reason_2 ++ []
def dkwX4_reason_1 : List UInt8 := [27, 153, 0, 23, 42, 28, 153, 0, 10, 42, 180, 0, 54, 167, 0, 7, 42, 180, 0, 51, 182, 0, 119, 172]
abbrev dktX4_reason_1 : List UInt8 := dkwX4_reason_1 ++ dktX4_reason_2
def dkwX4_reason_0 : List UInt8 := [42, 180, 0, 45, 153, 0, 14, 27, 153, 0, 16, 42, 180, 0, 51, 154, 0, 9, 42, 4, 182, 0, 57, 172]
abbrev dktX4_reason_0 : List UInt8 := dkwX4_reason_0 ++ dktX4_reason_1
theorem dksX4_reason_0 : cX4_reason.data.toList.drop 0 = dktX4_reason_0 := by decide +kernel
theorem dksX4_reason_1 : cX4_reason.data.toList.drop 24 = dktX4_reason_1 := dk_seg dksX4_reason_0 24 rfl rfl
theorem dksX4_reason_2 : cX4_reason.data.toList.drop 48 = dktX4_reason_2 := dk_seg dksX4_reason_1 24 rfl rfl
theorem dX4_reason_0 : decode cX4_reason 0 = .ok (.aload_n 0, 1) := dk_42 (dk_at dksX4_reason_0 0 rfl rfl)
theorem dX4_reason_1 : decode cX4_reason 1 = .ok (.getfield 45, 3) := dk_180 0 45 (dk_at dksX4_reason_0 1 rfl rfl)
theorem dX4_reason_4 : decode cX4_reason 4 = .ok (.ifCond .eq 14, 3) := dk_153 0 14 (dk_at dksX4_reason_0 4 rfl rfl)
theorem dX4_reason_7 : decode cX4_reason 7 = .ok (.iload_n 1, 1) := dk_27 (dk_at dksX4_reason_0 7 rfl rfl)
theorem dX4_reason_8 : decode cX4_reason 8 = .ok (.ifCond .eq 16, 3) := dk_153 0 16 (dk_at dksX4_reason_0 8 rfl rfl)
theorem dX4_reason_11 : decode cX4_reason 11 = .ok (.aload_n 0, 1) := dk_42 (dk_at dksX4_reason_0 11 rfl rfl)
theorem dX4_reason_12 : decode cX4_reason 12 = .ok (.getfield 51, 3) := dk_180 0 51 (dk_at dksX4_reason_0 12 rfl rfl)
theorem dX4_reason_15 : decode cX4_reason 15 = .ok (.ifCond .ne 9, 3) := dk_154 0 9 (dk_at dksX4_reason_0 15 rfl rfl)
theorem dX4_reason_18 : decode cX4_reason 18 = .ok (.aload_n 0, 1) := dk_42 (dk_at dksX4_reason_0 18 rfl rfl)
theorem dX4_reason_19 : decode cX4_reason 19 = .ok (.iconst 1, 1) := dk_4 (dk_at dksX4_reason_0 19 rfl rfl)
theorem dX4_reason_20 : decode cX4_reason 20 = .ok (.invokevirtual 57, 3) := dk_182 0 57 (dk_at dksX4_reason_0 20 rfl rfl)
theorem dX4_reason_23 : decode cX4_reason 23 = .ok (.ireturn, 1) := dk_172 (dk_at dksX4_reason_0 23 rfl rfl)
theorem dX4_reason_24 : decode cX4_reason 24 = .ok (.iload_n 1, 1) := dk_27 (dk_at dksX4_reason_1 0 rfl rfl)
theorem dX4_reason_25 : decode cX4_reason 25 = .ok (.ifCond .eq 23, 3) := dk_153 0 23 (dk_at dksX4_reason_1 1 rfl rfl)
theorem dX4_reason_28 : decode cX4_reason 28 = .ok (.aload_n 0, 1) := dk_42 (dk_at dksX4_reason_1 4 rfl rfl)
theorem dX4_reason_29 : decode cX4_reason 29 = .ok (.iload_n 2, 1) := dk_28 (dk_at dksX4_reason_1 5 rfl rfl)
theorem dX4_reason_30 : decode cX4_reason 30 = .ok (.ifCond .eq 10, 3) := dk_153 0 10 (dk_at dksX4_reason_1 6 rfl rfl)
theorem dX4_reason_33 : decode cX4_reason 33 = .ok (.aload_n 0, 1) := dk_42 (dk_at dksX4_reason_1 9 rfl rfl)
theorem dX4_reason_34 : decode cX4_reason 34 = .ok (.getfield 54, 3) := dk_180 0 54 (dk_at dksX4_reason_1 10 rfl rfl)
theorem dX4_reason_37 : decode cX4_reason 37 = .ok (.goto 7, 3) := dk_167 0 7 (dk_at dksX4_reason_1 13 rfl rfl)
theorem dX4_reason_40 : decode cX4_reason 40 = .ok (.aload_n 0, 1) := dk_42 (dk_at dksX4_reason_1 16 rfl rfl)
theorem dX4_reason_41 : decode cX4_reason 41 = .ok (.getfield 51, 3) := dk_180 0 51 (dk_at dksX4_reason_1 17 rfl rfl)
theorem dX4_reason_44 : decode cX4_reason 44 = .ok (.invokevirtual 119, 3) := dk_182 0 119 (dk_at dksX4_reason_1 20 rfl rfl)
theorem dX4_reason_47 : decode cX4_reason 47 = .ok (.ireturn, 1) := dk_172 (dk_at dksX4_reason_1 23 rfl rfl)
theorem dX4_reason_48 : decode cX4_reason 48 = .ok (.aload_n 0, 1) := dk_42 (dk_at dksX4_reason_2 0 rfl rfl)
theorem dX4_reason_49 : decode cX4_reason 49 = .ok (.iload_n 2, 1) := dk_28 (dk_at dksX4_reason_2 1 rfl rfl)
theorem dX4_reason_50 : decode cX4_reason 50 = .ok (.ifCond .eq 10, 3) := dk_153 0 10 (dk_at dksX4_reason_2 2 rfl rfl)
theorem dX4_reason_53 : decode cX4_reason 53 = .ok (.aload_n 0, 1) := dk_42 (dk_at dksX4_reason_2 5 rfl rfl)
theorem dX4_reason_54 : decode cX4_reason 54 = .ok (.getfield 48, 3) := dk_180 0 48 (dk_at dksX4_reason_2 6 rfl rfl)
theorem dX4_reason_57 : decode cX4_reason 57 = .ok (.goto 7, 3) := dk_167 0 7 (dk_at dksX4_reason_2 9 rfl rfl)
theorem dX4_reason_60 : decode cX4_reason 60 = .ok (.aload_n 0, 1) := dk_42 (dk_at dksX4_reason_2 12 rfl rfl)
theorem dX4_reason_61 : decode cX4_reason 61 = .ok (.getfield 45, 3) := dk_180 0 45 (dk_at dksX4_reason_2 13 rfl rfl)
theorem dX4_reason_64 : decode cX4_reason 64 = .ok (.invokevirtual 119, 3) := dk_182 0 119 (dk_at dksX4_reason_2 16 rfl rfl)
theorem dX4_reason_67 : decode cX4_reason 67 = .ok (.ireturn, 1) := dk_172 (dk_at dksX4_reason_2 19 rfl rfl)
abbrev cX4_tell : ByteArray := prog_15_method_77_code
def yX4_tell : MethodName := ⟨RX4, "tell", "(I)I"⟩
def dkwX4_tell_2 : List UInt8 := [182, 0, 242, 132, 2, 1, 167, 255, 224, 42, 42, 180, 0, 236, 182, 0, 119, 172]
abbrev dktX4_tell_2 : List UInt8 := dkwX4_tell_2 ++ []
def dkwX4_tell_1 : List UInt8 := [180, 0, 7, 5, 46, 162, 0, 28, 28, 158, 0, 9, 42, 16, 32, 182, 0, 239, 42, 7, 27, 104, 28, 96]
abbrev dktX4_tell_1 : List UInt8 := dkwX4_tell_1 ++ dktX4_tell_2
def dkwX4_tell_0 : List UInt8 := [42, 27, 182, 0, 162, 154, 0, 9, 42, 4, 182, 0, 57, 172, 42, 3, 181, 0, 236, 3, 61, 28, 42]
abbrev dktX4_tell_0 : List UInt8 := dkwX4_tell_0 ++ dktX4_tell_1
theorem dksX4_tell_0 : cX4_tell.data.toList.drop 0 = dktX4_tell_0 := by decide +kernel
theorem dksX4_tell_1 : cX4_tell.data.toList.drop 23 = dktX4_tell_1 := dk_seg dksX4_tell_0 23 rfl rfl
theorem dksX4_tell_2 : cX4_tell.data.toList.drop 47 = dktX4_tell_2 := dk_seg dksX4_tell_1 24 rfl rfl
theorem dX4_tell_0 : decode cX4_tell 0 = .ok (.aload_n 0, 1) := dk_42 (dk_at dksX4_tell_0 0 rfl rfl)
theorem dX4_tell_1 : decode cX4_tell 1 = .ok (.iload_n 1, 1) := dk_27 (dk_at dksX4_tell_0 1 rfl rfl)
theorem dX4_tell_2 : decode cX4_tell 2 = .ok (.invokevirtual 162, 3) := dk_182 0 162 (dk_at dksX4_tell_0 2 rfl rfl)
theorem dX4_tell_5 : decode cX4_tell 5 = .ok (.ifCond .ne 9, 3) := dk_154 0 9 (dk_at dksX4_tell_0 5 rfl rfl)
theorem dX4_tell_8 : decode cX4_tell 8 = .ok (.aload_n 0, 1) := dk_42 (dk_at dksX4_tell_0 8 rfl rfl)
theorem dX4_tell_9 : decode cX4_tell 9 = .ok (.iconst 1, 1) := dk_4 (dk_at dksX4_tell_0 9 rfl rfl)
theorem dX4_tell_10 : decode cX4_tell 10 = .ok (.invokevirtual 57, 3) := dk_182 0 57 (dk_at dksX4_tell_0 10 rfl rfl)
theorem dX4_tell_13 : decode cX4_tell 13 = .ok (.ireturn, 1) := dk_172 (dk_at dksX4_tell_0 13 rfl rfl)
theorem dX4_tell_14 : decode cX4_tell 14 = .ok (.aload_n 0, 1) := dk_42 (dk_at dksX4_tell_0 14 rfl rfl)
theorem dX4_tell_15 : decode cX4_tell 15 = .ok (.iconst 0, 1) := dk_3 (dk_at dksX4_tell_0 15 rfl rfl)
theorem dX4_tell_16 : decode cX4_tell 16 = .ok (.putfield 236, 3) := dk_181 0 236 (dk_at dksX4_tell_0 16 rfl rfl)
theorem dX4_tell_19 : decode cX4_tell 19 = .ok (.iconst 0, 1) := dk_3 (dk_at dksX4_tell_0 19 rfl rfl)
theorem dX4_tell_20 : decode cX4_tell 20 = .ok (.istore_n 2, 1) := dk_61 (dk_at dksX4_tell_0 20 rfl rfl)
theorem dX4_tell_21 : decode cX4_tell 21 = .ok (.iload_n 2, 1) := dk_28 (dk_at dksX4_tell_0 21 rfl rfl)
theorem dX4_tell_22 : decode cX4_tell 22 = .ok (.aload_n 0, 1) := dk_42 (dk_at dksX4_tell_0 22 rfl rfl)
theorem dX4_tell_23 : decode cX4_tell 23 = .ok (.getfield 7, 3) := dk_180 0 7 (dk_at dksX4_tell_1 0 rfl rfl)
theorem dX4_tell_26 : decode cX4_tell 26 = .ok (.iconst 2, 1) := dk_5 (dk_at dksX4_tell_1 3 rfl rfl)
theorem dX4_tell_27 : decode cX4_tell 27 = .ok (.iaload, 1) := dk_46 (dk_at dksX4_tell_1 4 rfl rfl)
theorem dX4_tell_28 : decode cX4_tell 28 = .ok (.if_icmp .ge 28, 3) := dk_162 0 28 (dk_at dksX4_tell_1 5 rfl rfl)
theorem dX4_tell_31 : decode cX4_tell 31 = .ok (.iload_n 2, 1) := dk_28 (dk_at dksX4_tell_1 8 rfl rfl)
theorem dX4_tell_32 : decode cX4_tell 32 = .ok (.ifCond .le 9, 3) := dk_158 0 9 (dk_at dksX4_tell_1 9 rfl rfl)
theorem dX4_tell_35 : decode cX4_tell 35 = .ok (.aload_n 0, 1) := dk_42 (dk_at dksX4_tell_1 12 rfl rfl)
theorem dX4_tell_36 : decode cX4_tell 36 = .ok (.bipush 32, 2) := dk_16 32 (dk_at dksX4_tell_1 13 rfl rfl)
theorem dX4_tell_38 : decode cX4_tell 38 = .ok (.invokevirtual 239, 3) := dk_182 0 239 (dk_at dksX4_tell_1 15 rfl rfl)
theorem dX4_tell_41 : decode cX4_tell 41 = .ok (.aload_n 0, 1) := dk_42 (dk_at dksX4_tell_1 18 rfl rfl)
theorem dX4_tell_42 : decode cX4_tell 42 = .ok (.iconst 4, 1) := dk_7 (dk_at dksX4_tell_1 19 rfl rfl)
theorem dX4_tell_43 : decode cX4_tell 43 = .ok (.iload_n 1, 1) := dk_27 (dk_at dksX4_tell_1 20 rfl rfl)
theorem dX4_tell_44 : decode cX4_tell 44 = .ok (.imul, 1) := dk_104 (dk_at dksX4_tell_1 21 rfl rfl)
theorem dX4_tell_45 : decode cX4_tell 45 = .ok (.iload_n 2, 1) := dk_28 (dk_at dksX4_tell_1 22 rfl rfl)
theorem dX4_tell_46 : decode cX4_tell 46 = .ok (.iadd, 1) := dk_96 (dk_at dksX4_tell_1 23 rfl rfl)
theorem dX4_tell_47 : decode cX4_tell 47 = .ok (.invokevirtual 242, 3) := dk_182 0 242 (dk_at dksX4_tell_2 0 rfl rfl)
theorem dX4_tell_50 : decode cX4_tell 50 = .ok (.iinc 2 1, 3) := dk_132 2 1 (dk_at dksX4_tell_2 3 rfl rfl)
theorem dX4_tell_53 : decode cX4_tell 53 = .ok (.goto (-32), 3) := dk_167 255 224 (dk_at dksX4_tell_2 6 rfl rfl)
theorem dX4_tell_56 : decode cX4_tell 56 = .ok (.aload_n 0, 1) := dk_42 (dk_at dksX4_tell_2 9 rfl rfl)
theorem dX4_tell_57 : decode cX4_tell 57 = .ok (.aload_n 0, 1) := dk_42 (dk_at dksX4_tell_2 10 rfl rfl)
theorem dX4_tell_58 : decode cX4_tell 58 = .ok (.getfield 236, 3) := dk_180 0 236 (dk_at dksX4_tell_2 11 rfl rfl)
theorem dX4_tell_61 : decode cX4_tell 61 = .ok (.invokevirtual 119, 3) := dk_182 0 119 (dk_at dksX4_tell_2 14 rfl rfl)
theorem dX4_tell_64 : decode cX4_tell 64 = .ok (.ireturn, 1) := dk_172 (dk_at dksX4_tell_2 17 rfl rfl)
abbrev cX4_writesSign : ByteArray := prog_15_method_75_code
def yX4_writesSign : MethodName := ⟨RX4, "writesSign", "(I)V"⟩
def dkwX4_writesSign_0 : List UInt8 := [42, 180, 0, 33, 42, 180, 0, 236, 27, 146, 85, 42, 89, 180, 0, 236, 4, 96, 181, 0, 236, 177]
abbrev dktX4_writesSign_0 : List UInt8 := dkwX4_writesSign_0 ++ []
theorem dksX4_writesSign_0 : cX4_writesSign.data.toList.drop 0 = dktX4_writesSign_0 := by decide +kernel
theorem dX4_writesSign_0 : decode cX4_writesSign 0 = .ok (.aload_n 0, 1) := dk_42 (dk_at dksX4_writesSign_0 0 rfl rfl)
theorem dX4_writesSign_1 : decode cX4_writesSign 1 = .ok (.getfield 33, 3) := dk_180 0 33 (dk_at dksX4_writesSign_0 1 rfl rfl)
theorem dX4_writesSign_4 : decode cX4_writesSign 4 = .ok (.aload_n 0, 1) := dk_42 (dk_at dksX4_writesSign_0 4 rfl rfl)
theorem dX4_writesSign_5 : decode cX4_writesSign 5 = .ok (.getfield 236, 3) := dk_180 0 236 (dk_at dksX4_writesSign_0 5 rfl rfl)
theorem dX4_writesSign_8 : decode cX4_writesSign 8 = .ok (.iload_n 1, 1) := dk_27 (dk_at dksX4_writesSign_0 8 rfl rfl)
theorem dX4_writesSign_9 : decode cX4_writesSign 9 = .ok (.i2c, 1) := dk_146 (dk_at dksX4_writesSign_0 9 rfl rfl)
theorem dX4_writesSign_10 : decode cX4_writesSign 10 = .ok (.castore, 1) := dk_85 (dk_at dksX4_writesSign_0 10 rfl rfl)
theorem dX4_writesSign_11 : decode cX4_writesSign 11 = .ok (.aload_n 0, 1) := dk_42 (dk_at dksX4_writesSign_0 11 rfl rfl)
theorem dX4_writesSign_12 : decode cX4_writesSign 12 = .ok (.dup, 1) := dk_89 (dk_at dksX4_writesSign_0 12 rfl rfl)
theorem dX4_writesSign_13 : decode cX4_writesSign 13 = .ok (.getfield 236, 3) := dk_180 0 236 (dk_at dksX4_writesSign_0 13 rfl rfl)
theorem dX4_writesSign_16 : decode cX4_writesSign 16 = .ok (.iconst 1, 1) := dk_4 (dk_at dksX4_writesSign_0 16 rfl rfl)
theorem dX4_writesSign_17 : decode cX4_writesSign 17 = .ok (.iadd, 1) := dk_96 (dk_at dksX4_writesSign_0 17 rfl rfl)
theorem dX4_writesSign_18 : decode cX4_writesSign 18 = .ok (.putfield 236, 3) := dk_181 0 236 (dk_at dksX4_writesSign_0 18 rfl rfl)
theorem dX4_writesSign_21 : decode cX4_writesSign 21 = .ok (.return_, 1) := dk_177 (dk_at dksX4_writesSign_0 21 rfl rfl)
abbrev cX4_writesLine : ByteArray := prog_15_method_76_code
def yX4_writesLine : MethodName := ⟨RX4, "writesLine", "(I)V"⟩
def dkwX4_writesLine_4 : List UInt8 := [182, 0, 239, 177]
abbrev dktX4_writesLine_4 : List UInt8 := dkwX4_writesLine_4 ++ []
def dkwX4_writesLine_3 : List UInt8 := [132, 3, 1, 167, 255, 231, 42, 180, 0, 7, 16, 105, 27, 96, 46, 4, 160, 0, 9, 42, 16, 33]
abbrev dktX4_writesLine_3 : List UInt8 := dkwX4_writesLine_3 ++ dktX4_writesLine_4
def dkwX4_writesLine_2 : List UInt8 := [29, 42, 180, 0, 7, 16, 89, 27, 96, 46, 184, 0, 76, 162, 0, 15, 42, 16, 42, 182, 0, 239]
abbrev dktX4_writesLine_2 : List UInt8 := dkwX4_writesLine_2 ++ dktX4_writesLine_3
def dkwX4_writesLine_1 : List UInt8 := [16, 9, 164, 0, 9, 42, 16, 49, 182, 0, 239, 42, 16, 48, 28, 16, 10, 112, 96, 182, 0, 239, 3, 62]
abbrev dktX4_writesLine_1 : List UInt8 := dkwX4_writesLine_1 ++ dktX4_writesLine_2
def dkwX4_writesLine_0 : List UInt8 := [42, 180, 0, 7, 16, 73, 27, 96, 46, 61, 28, 2, 160, 0, 10, 42, 16, 45, 182, 0, 239, 177, 28]
abbrev dktX4_writesLine_0 : List UInt8 := dkwX4_writesLine_0 ++ dktX4_writesLine_1
theorem dksX4_writesLine_0 : cX4_writesLine.data.toList.drop 0 = dktX4_writesLine_0 := by decide +kernel
theorem dksX4_writesLine_1 : cX4_writesLine.data.toList.drop 23 = dktX4_writesLine_1 := dk_seg dksX4_writesLine_0 23 rfl rfl
theorem dksX4_writesLine_2 : cX4_writesLine.data.toList.drop 47 = dktX4_writesLine_2 := dk_seg dksX4_writesLine_1 24 rfl rfl
theorem dksX4_writesLine_3 : cX4_writesLine.data.toList.drop 69 = dktX4_writesLine_3 := dk_seg dksX4_writesLine_2 22 rfl rfl
theorem dksX4_writesLine_4 : cX4_writesLine.data.toList.drop 91 = dktX4_writesLine_4 := dk_seg dksX4_writesLine_3 22 rfl rfl
theorem dX4_writesLine_0 : decode cX4_writesLine 0 = .ok (.aload_n 0, 1) := dk_42 (dk_at dksX4_writesLine_0 0 rfl rfl)
theorem dX4_writesLine_1 : decode cX4_writesLine 1 = .ok (.getfield 7, 3) := dk_180 0 7 (dk_at dksX4_writesLine_0 1 rfl rfl)
theorem dX4_writesLine_4 : decode cX4_writesLine 4 = .ok (.bipush 73, 2) := dk_16 73 (dk_at dksX4_writesLine_0 4 rfl rfl)
theorem dX4_writesLine_6 : decode cX4_writesLine 6 = .ok (.iload_n 1, 1) := dk_27 (dk_at dksX4_writesLine_0 6 rfl rfl)
theorem dX4_writesLine_7 : decode cX4_writesLine 7 = .ok (.iadd, 1) := dk_96 (dk_at dksX4_writesLine_0 7 rfl rfl)
theorem dX4_writesLine_8 : decode cX4_writesLine 8 = .ok (.iaload, 1) := dk_46 (dk_at dksX4_writesLine_0 8 rfl rfl)
theorem dX4_writesLine_9 : decode cX4_writesLine 9 = .ok (.istore_n 2, 1) := dk_61 (dk_at dksX4_writesLine_0 9 rfl rfl)
theorem dX4_writesLine_10 : decode cX4_writesLine 10 = .ok (.iload_n 2, 1) := dk_28 (dk_at dksX4_writesLine_0 10 rfl rfl)
theorem dX4_writesLine_11 : decode cX4_writesLine 11 = .ok (.iconst (-1), 1) := dk_2 (dk_at dksX4_writesLine_0 11 rfl rfl)
theorem dX4_writesLine_12 : decode cX4_writesLine 12 = .ok (.if_icmp .ne 10, 3) := dk_160 0 10 (dk_at dksX4_writesLine_0 12 rfl rfl)
theorem dX4_writesLine_15 : decode cX4_writesLine 15 = .ok (.aload_n 0, 1) := dk_42 (dk_at dksX4_writesLine_0 15 rfl rfl)
theorem dX4_writesLine_16 : decode cX4_writesLine 16 = .ok (.bipush 45, 2) := dk_16 45 (dk_at dksX4_writesLine_0 16 rfl rfl)
theorem dX4_writesLine_18 : decode cX4_writesLine 18 = .ok (.invokevirtual 239, 3) := dk_182 0 239 (dk_at dksX4_writesLine_0 18 rfl rfl)
theorem dX4_writesLine_21 : decode cX4_writesLine 21 = .ok (.return_, 1) := dk_177 (dk_at dksX4_writesLine_0 21 rfl rfl)
theorem dX4_writesLine_22 : decode cX4_writesLine 22 = .ok (.iload_n 2, 1) := dk_28 (dk_at dksX4_writesLine_0 22 rfl rfl)
theorem dX4_writesLine_23 : decode cX4_writesLine 23 = .ok (.bipush 9, 2) := dk_16 9 (dk_at dksX4_writesLine_1 0 rfl rfl)
theorem dX4_writesLine_25 : decode cX4_writesLine 25 = .ok (.if_icmp .le 9, 3) := dk_164 0 9 (dk_at dksX4_writesLine_1 2 rfl rfl)
theorem dX4_writesLine_28 : decode cX4_writesLine 28 = .ok (.aload_n 0, 1) := dk_42 (dk_at dksX4_writesLine_1 5 rfl rfl)
theorem dX4_writesLine_29 : decode cX4_writesLine 29 = .ok (.bipush 49, 2) := dk_16 49 (dk_at dksX4_writesLine_1 6 rfl rfl)
theorem dX4_writesLine_31 : decode cX4_writesLine 31 = .ok (.invokevirtual 239, 3) := dk_182 0 239 (dk_at dksX4_writesLine_1 8 rfl rfl)
theorem dX4_writesLine_34 : decode cX4_writesLine 34 = .ok (.aload_n 0, 1) := dk_42 (dk_at dksX4_writesLine_1 11 rfl rfl)
theorem dX4_writesLine_35 : decode cX4_writesLine 35 = .ok (.bipush 48, 2) := dk_16 48 (dk_at dksX4_writesLine_1 12 rfl rfl)
theorem dX4_writesLine_37 : decode cX4_writesLine 37 = .ok (.iload_n 2, 1) := dk_28 (dk_at dksX4_writesLine_1 14 rfl rfl)
theorem dX4_writesLine_38 : decode cX4_writesLine 38 = .ok (.bipush 10, 2) := dk_16 10 (dk_at dksX4_writesLine_1 15 rfl rfl)
theorem dX4_writesLine_40 : decode cX4_writesLine 40 = .ok (.irem, 1) := dk_112 (dk_at dksX4_writesLine_1 17 rfl rfl)
theorem dX4_writesLine_41 : decode cX4_writesLine 41 = .ok (.iadd, 1) := dk_96 (dk_at dksX4_writesLine_1 18 rfl rfl)
theorem dX4_writesLine_42 : decode cX4_writesLine 42 = .ok (.invokevirtual 239, 3) := dk_182 0 239 (dk_at dksX4_writesLine_1 19 rfl rfl)
theorem dX4_writesLine_45 : decode cX4_writesLine 45 = .ok (.iconst 0, 1) := dk_3 (dk_at dksX4_writesLine_1 22 rfl rfl)
theorem dX4_writesLine_46 : decode cX4_writesLine 46 = .ok (.istore_n 3, 1) := dk_62 (dk_at dksX4_writesLine_1 23 rfl rfl)
theorem dX4_writesLine_47 : decode cX4_writesLine 47 = .ok (.iload_n 3, 1) := dk_29 (dk_at dksX4_writesLine_2 0 rfl rfl)
theorem dX4_writesLine_48 : decode cX4_writesLine 48 = .ok (.aload_n 0, 1) := dk_42 (dk_at dksX4_writesLine_2 1 rfl rfl)
theorem dX4_writesLine_49 : decode cX4_writesLine 49 = .ok (.getfield 7, 3) := dk_180 0 7 (dk_at dksX4_writesLine_2 2 rfl rfl)
theorem dX4_writesLine_52 : decode cX4_writesLine 52 = .ok (.bipush 89, 2) := dk_16 89 (dk_at dksX4_writesLine_2 5 rfl rfl)
theorem dX4_writesLine_54 : decode cX4_writesLine 54 = .ok (.iload_n 1, 1) := dk_27 (dk_at dksX4_writesLine_2 7 rfl rfl)
theorem dX4_writesLine_55 : decode cX4_writesLine 55 = .ok (.iadd, 1) := dk_96 (dk_at dksX4_writesLine_2 8 rfl rfl)
theorem dX4_writesLine_56 : decode cX4_writesLine 56 = .ok (.iaload, 1) := dk_46 (dk_at dksX4_writesLine_2 9 rfl rfl)
theorem dX4_writesLine_57 : decode cX4_writesLine 57 = .ok (.invokestatic 76, 3) := dk_184 0 76 (dk_at dksX4_writesLine_2 10 rfl rfl)
theorem dX4_writesLine_60 : decode cX4_writesLine 60 = .ok (.if_icmp .ge 15, 3) := dk_162 0 15 (dk_at dksX4_writesLine_2 13 rfl rfl)
theorem dX4_writesLine_63 : decode cX4_writesLine 63 = .ok (.aload_n 0, 1) := dk_42 (dk_at dksX4_writesLine_2 16 rfl rfl)
theorem dX4_writesLine_64 : decode cX4_writesLine 64 = .ok (.bipush 42, 2) := dk_16 42 (dk_at dksX4_writesLine_2 17 rfl rfl)
theorem dX4_writesLine_66 : decode cX4_writesLine 66 = .ok (.invokevirtual 239, 3) := dk_182 0 239 (dk_at dksX4_writesLine_2 19 rfl rfl)
theorem dX4_writesLine_69 : decode cX4_writesLine 69 = .ok (.iinc 3 1, 3) := dk_132 3 1 (dk_at dksX4_writesLine_3 0 rfl rfl)
theorem dX4_writesLine_72 : decode cX4_writesLine 72 = .ok (.goto (-25), 3) := dk_167 255 231 (dk_at dksX4_writesLine_3 3 rfl rfl)
theorem dX4_writesLine_75 : decode cX4_writesLine 75 = .ok (.aload_n 0, 1) := dk_42 (dk_at dksX4_writesLine_3 6 rfl rfl)
theorem dX4_writesLine_76 : decode cX4_writesLine 76 = .ok (.getfield 7, 3) := dk_180 0 7 (dk_at dksX4_writesLine_3 7 rfl rfl)
theorem dX4_writesLine_79 : decode cX4_writesLine 79 = .ok (.bipush 105, 2) := dk_16 105 (dk_at dksX4_writesLine_3 10 rfl rfl)
theorem dX4_writesLine_81 : decode cX4_writesLine 81 = .ok (.iload_n 1, 1) := dk_27 (dk_at dksX4_writesLine_3 12 rfl rfl)
theorem dX4_writesLine_82 : decode cX4_writesLine 82 = .ok (.iadd, 1) := dk_96 (dk_at dksX4_writesLine_3 13 rfl rfl)
theorem dX4_writesLine_83 : decode cX4_writesLine 83 = .ok (.iaload, 1) := dk_46 (dk_at dksX4_writesLine_3 14 rfl rfl)
theorem dX4_writesLine_84 : decode cX4_writesLine 84 = .ok (.iconst 1, 1) := dk_4 (dk_at dksX4_writesLine_3 15 rfl rfl)
theorem dX4_writesLine_85 : decode cX4_writesLine 85 = .ok (.if_icmp .ne 9, 3) := dk_160 0 9 (dk_at dksX4_writesLine_3 16 rfl rfl)
theorem dX4_writesLine_88 : decode cX4_writesLine 88 = .ok (.aload_n 0, 1) := dk_42 (dk_at dksX4_writesLine_3 19 rfl rfl)
theorem dX4_writesLine_89 : decode cX4_writesLine 89 = .ok (.bipush 33, 2) := dk_16 33 (dk_at dksX4_writesLine_3 20 rfl rfl)
theorem dX4_writesLine_91 : decode cX4_writesLine 91 = .ok (.invokevirtual 239, 3) := dk_182 0 239 (dk_at dksX4_writesLine_4 0 rfl rfl)
theorem dX4_writesLine_94 : decode cX4_writesLine 94 = .ok (.return_, 1) := dk_177 (dk_at dksX4_writesLine_4 3 rfl rfl)
abbrev cX4_character : ByteArray := prog_15_method_78_code
def yX4_character : MethodName := ⟨RX4, "character", "(I)C"⟩
def dkwX4_character_1 : List UInt8 := [180, 0, 42, 154, 0, 12, 42, 180, 0, 33, 27, 52, 167, 0, 4, 3, 172]
abbrev dktX4_character_1 : List UInt8 := dkwX4_character_1 ++ []
def dkwX4_character_0 : List UInt8 := [42, 27, 3, 42, 180, 0, 236, 4, 100, 184, 0, 68, 153, 0, 7, 3, 167, 0, 4, 4, 181, 0, 42, 42]
abbrev dktX4_character_0 : List UInt8 := dkwX4_character_0 ++ dktX4_character_1
theorem dksX4_character_0 : cX4_character.data.toList.drop 0 = dktX4_character_0 := by decide +kernel
theorem dksX4_character_1 : cX4_character.data.toList.drop 24 = dktX4_character_1 := dk_seg dksX4_character_0 24 rfl rfl
theorem dX4_character_0 : decode cX4_character 0 = .ok (.aload_n 0, 1) := dk_42 (dk_at dksX4_character_0 0 rfl rfl)
theorem dX4_character_1 : decode cX4_character 1 = .ok (.iload_n 1, 1) := dk_27 (dk_at dksX4_character_0 1 rfl rfl)
theorem dX4_character_2 : decode cX4_character 2 = .ok (.iconst 0, 1) := dk_3 (dk_at dksX4_character_0 2 rfl rfl)
theorem dX4_character_3 : decode cX4_character 3 = .ok (.aload_n 0, 1) := dk_42 (dk_at dksX4_character_0 3 rfl rfl)
theorem dX4_character_4 : decode cX4_character 4 = .ok (.getfield 236, 3) := dk_180 0 236 (dk_at dksX4_character_0 4 rfl rfl)
theorem dX4_character_7 : decode cX4_character 7 = .ok (.iconst 1, 1) := dk_4 (dk_at dksX4_character_0 7 rfl rfl)
theorem dX4_character_8 : decode cX4_character 8 = .ok (.isub, 1) := dk_100 (dk_at dksX4_character_0 8 rfl rfl)
theorem dX4_character_9 : decode cX4_character 9 = .ok (.invokestatic 68, 3) := dk_184 0 68 (dk_at dksX4_character_0 9 rfl rfl)
theorem dX4_character_12 : decode cX4_character 12 = .ok (.ifCond .eq 7, 3) := dk_153 0 7 (dk_at dksX4_character_0 12 rfl rfl)
theorem dX4_character_15 : decode cX4_character 15 = .ok (.iconst 0, 1) := dk_3 (dk_at dksX4_character_0 15 rfl rfl)
theorem dX4_character_16 : decode cX4_character 16 = .ok (.goto 4, 3) := dk_167 0 4 (dk_at dksX4_character_0 16 rfl rfl)
theorem dX4_character_19 : decode cX4_character 19 = .ok (.iconst 1, 1) := dk_4 (dk_at dksX4_character_0 19 rfl rfl)
theorem dX4_character_20 : decode cX4_character 20 = .ok (.putfield 42, 3) := dk_181 0 42 (dk_at dksX4_character_0 20 rfl rfl)
theorem dX4_character_23 : decode cX4_character 23 = .ok (.aload_n 0, 1) := dk_42 (dk_at dksX4_character_0 23 rfl rfl)
theorem dX4_character_24 : decode cX4_character 24 = .ok (.getfield 42, 3) := dk_180 0 42 (dk_at dksX4_character_1 0 rfl rfl)
theorem dX4_character_27 : decode cX4_character 27 = .ok (.ifCond .ne 12, 3) := dk_154 0 12 (dk_at dksX4_character_1 3 rfl rfl)
theorem dX4_character_30 : decode cX4_character 30 = .ok (.aload_n 0, 1) := dk_42 (dk_at dksX4_character_1 6 rfl rfl)
theorem dX4_character_31 : decode cX4_character 31 = .ok (.getfield 33, 3) := dk_180 0 33 (dk_at dksX4_character_1 7 rfl rfl)
theorem dX4_character_34 : decode cX4_character 34 = .ok (.iload_n 1, 1) := dk_27 (dk_at dksX4_character_1 10 rfl rfl)
theorem dX4_character_35 : decode cX4_character 35 = .ok (.caload, 1) := dk_52 (dk_at dksX4_character_1 11 rfl rfl)
theorem dX4_character_36 : decode cX4_character 36 = .ok (.goto 4, 3) := dk_167 0 4 (dk_at dksX4_character_1 12 rfl rfl)
theorem dX4_character_39 : decode cX4_character 39 = .ok (.iconst 0, 1) := dk_3 (dk_at dksX4_character_1 15 rfl rfl)
theorem dX4_character_40 : decode cX4_character 40 = .ok (.ireturn, 1) := dk_172 (dk_at dksX4_character_1 16 rfl rfl)
abbrev cX4_hitShare : ByteArray := prog_15_method_79_code
def yX4_hitShare : MethodName := ⟨RX4, "hitShare", "()F"⟩
def dkwX4_hitShare_2 : List UInt8 := [27, 134, 110, 174]
abbrev dktX4_hitShare_2 : List UInt8 := dkwX4_hitShare_2 ++ []
def dkwX4_hitShare_1 : List UInt8 := [167, 0, 4, 3, 181, 0, 42, 27, 154, 0, 7, 11, 167, 0, 15, 42, 180, 0, 7, 17, 1, 29, 46, 134]
abbrev dktX4_hitShare_1 : List UInt8 := dkwX4_hitShare_1 ++ dktX4_hitShare_2
def dkwX4_hitShare_0 : List UInt8 := [42, 180, 0, 7, 17, 1, 27, 46, 42, 180, 0, 7, 17, 1, 28, 46, 96, 60, 42, 27, 154, 0, 7, 4]
abbrev dktX4_hitShare_0 : List UInt8 := dkwX4_hitShare_0 ++ dktX4_hitShare_1
theorem dksX4_hitShare_0 : cX4_hitShare.data.toList.drop 0 = dktX4_hitShare_0 := by decide +kernel
theorem dksX4_hitShare_1 : cX4_hitShare.data.toList.drop 24 = dktX4_hitShare_1 := dk_seg dksX4_hitShare_0 24 rfl rfl
theorem dksX4_hitShare_2 : cX4_hitShare.data.toList.drop 48 = dktX4_hitShare_2 := dk_seg dksX4_hitShare_1 24 rfl rfl
theorem dX4_hitShare_0 : decode cX4_hitShare 0 = .ok (.aload_n 0, 1) := dk_42 (dk_at dksX4_hitShare_0 0 rfl rfl)
theorem dX4_hitShare_1 : decode cX4_hitShare 1 = .ok (.getfield 7, 3) := dk_180 0 7 (dk_at dksX4_hitShare_0 1 rfl rfl)
theorem dX4_hitShare_4 : decode cX4_hitShare 4 = .ok (.sipush 283, 3) := dk_17 1 27 (dk_at dksX4_hitShare_0 4 rfl rfl)
theorem dX4_hitShare_7 : decode cX4_hitShare 7 = .ok (.iaload, 1) := dk_46 (dk_at dksX4_hitShare_0 7 rfl rfl)
theorem dX4_hitShare_8 : decode cX4_hitShare 8 = .ok (.aload_n 0, 1) := dk_42 (dk_at dksX4_hitShare_0 8 rfl rfl)
theorem dX4_hitShare_9 : decode cX4_hitShare 9 = .ok (.getfield 7, 3) := dk_180 0 7 (dk_at dksX4_hitShare_0 9 rfl rfl)
theorem dX4_hitShare_12 : decode cX4_hitShare 12 = .ok (.sipush 284, 3) := dk_17 1 28 (dk_at dksX4_hitShare_0 12 rfl rfl)
theorem dX4_hitShare_15 : decode cX4_hitShare 15 = .ok (.iaload, 1) := dk_46 (dk_at dksX4_hitShare_0 15 rfl rfl)
theorem dX4_hitShare_16 : decode cX4_hitShare 16 = .ok (.iadd, 1) := dk_96 (dk_at dksX4_hitShare_0 16 rfl rfl)
theorem dX4_hitShare_17 : decode cX4_hitShare 17 = .ok (.istore_n 1, 1) := dk_60 (dk_at dksX4_hitShare_0 17 rfl rfl)
theorem dX4_hitShare_18 : decode cX4_hitShare 18 = .ok (.aload_n 0, 1) := dk_42 (dk_at dksX4_hitShare_0 18 rfl rfl)
theorem dX4_hitShare_19 : decode cX4_hitShare 19 = .ok (.iload_n 1, 1) := dk_27 (dk_at dksX4_hitShare_0 19 rfl rfl)
theorem dX4_hitShare_20 : decode cX4_hitShare 20 = .ok (.ifCond .ne 7, 3) := dk_154 0 7 (dk_at dksX4_hitShare_0 20 rfl rfl)
theorem dX4_hitShare_23 : decode cX4_hitShare 23 = .ok (.iconst 1, 1) := dk_4 (dk_at dksX4_hitShare_0 23 rfl rfl)
theorem dX4_hitShare_24 : decode cX4_hitShare 24 = .ok (.goto 4, 3) := dk_167 0 4 (dk_at dksX4_hitShare_1 0 rfl rfl)
theorem dX4_hitShare_27 : decode cX4_hitShare 27 = .ok (.iconst 0, 1) := dk_3 (dk_at dksX4_hitShare_1 3 rfl rfl)
theorem dX4_hitShare_28 : decode cX4_hitShare 28 = .ok (.putfield 42, 3) := dk_181 0 42 (dk_at dksX4_hitShare_1 4 rfl rfl)
theorem dX4_hitShare_31 : decode cX4_hitShare 31 = .ok (.iload_n 1, 1) := dk_27 (dk_at dksX4_hitShare_1 7 rfl rfl)
theorem dX4_hitShare_32 : decode cX4_hitShare 32 = .ok (.ifCond .ne 7, 3) := dk_154 0 7 (dk_at dksX4_hitShare_1 8 rfl rfl)
theorem dX4_hitShare_35 : decode cX4_hitShare 35 = .ok (.fconst 0, 1) := dk_11 (dk_at dksX4_hitShare_1 11 rfl rfl)
theorem dX4_hitShare_36 : decode cX4_hitShare 36 = .ok (.goto 15, 3) := dk_167 0 15 (dk_at dksX4_hitShare_1 12 rfl rfl)
theorem dX4_hitShare_39 : decode cX4_hitShare 39 = .ok (.aload_n 0, 1) := dk_42 (dk_at dksX4_hitShare_1 15 rfl rfl)
theorem dX4_hitShare_40 : decode cX4_hitShare 40 = .ok (.getfield 7, 3) := dk_180 0 7 (dk_at dksX4_hitShare_1 16 rfl rfl)
theorem dX4_hitShare_43 : decode cX4_hitShare 43 = .ok (.sipush 285, 3) := dk_17 1 29 (dk_at dksX4_hitShare_1 19 rfl rfl)
theorem dX4_hitShare_46 : decode cX4_hitShare 46 = .ok (.iaload, 1) := dk_46 (dk_at dksX4_hitShare_1 22 rfl rfl)
theorem dX4_hitShare_47 : decode cX4_hitShare 47 = .ok (.i2f, 1) := dk_134 (dk_at dksX4_hitShare_1 23 rfl rfl)
theorem dX4_hitShare_48 : decode cX4_hitShare 48 = .ok (.iload_n 1, 1) := dk_27 (dk_at dksX4_hitShare_2 0 rfl rfl)
theorem dX4_hitShare_49 : decode cX4_hitShare 49 = .ok (.i2f, 1) := dk_134 (dk_at dksX4_hitShare_2 1 rfl rfl)
theorem dX4_hitShare_50 : decode cX4_hitShare 50 = .ok (.fdiv, 1) := dk_110 (dk_at dksX4_hitShare_2 2 rfl rfl)
theorem dX4_hitShare_51 : decode cX4_hitShare 51 = .ok (.freturn, 1) := dk_174 (dk_at dksX4_hitShare_2 3 rfl rfl)
abbrev cX4_meanWord : ByteArray := prog_15_method_80_code
def yX4_meanWord : MethodName := ⟨RX4, "meanWord", "()D"⟩
def dkwX4_meanWord_1 : List UInt8 := [132, 2, 1, 167, 255, 239, 27, 135, 20, 0, 245, 111, 175]
abbrev dktX4_meanWord_1 : List UInt8 := dkwX4_meanWord_1 ++ []
def dkwX4_meanWord_0 : List UInt8 := [42, 3, 181, 0, 42, 3, 60, 3, 61, 28, 16, 64, 162, 0, 17, 27, 42, 28, 182, 0, 159, 96, 60]
abbrev dktX4_meanWord_0 : List UInt8 := dkwX4_meanWord_0 ++ dktX4_meanWord_1
theorem dksX4_meanWord_0 : cX4_meanWord.data.toList.drop 0 = dktX4_meanWord_0 := by decide +kernel
theorem dksX4_meanWord_1 : cX4_meanWord.data.toList.drop 23 = dktX4_meanWord_1 := dk_seg dksX4_meanWord_0 23 rfl rfl
theorem dX4_meanWord_0 : decode cX4_meanWord 0 = .ok (.aload_n 0, 1) := dk_42 (dk_at dksX4_meanWord_0 0 rfl rfl)
theorem dX4_meanWord_1 : decode cX4_meanWord 1 = .ok (.iconst 0, 1) := dk_3 (dk_at dksX4_meanWord_0 1 rfl rfl)
theorem dX4_meanWord_2 : decode cX4_meanWord 2 = .ok (.putfield 42, 3) := dk_181 0 42 (dk_at dksX4_meanWord_0 2 rfl rfl)
theorem dX4_meanWord_5 : decode cX4_meanWord 5 = .ok (.iconst 0, 1) := dk_3 (dk_at dksX4_meanWord_0 5 rfl rfl)
theorem dX4_meanWord_6 : decode cX4_meanWord 6 = .ok (.istore_n 1, 1) := dk_60 (dk_at dksX4_meanWord_0 6 rfl rfl)
theorem dX4_meanWord_7 : decode cX4_meanWord 7 = .ok (.iconst 0, 1) := dk_3 (dk_at dksX4_meanWord_0 7 rfl rfl)
theorem dX4_meanWord_8 : decode cX4_meanWord 8 = .ok (.istore_n 2, 1) := dk_61 (dk_at dksX4_meanWord_0 8 rfl rfl)
theorem dX4_meanWord_9 : decode cX4_meanWord 9 = .ok (.iload_n 2, 1) := dk_28 (dk_at dksX4_meanWord_0 9 rfl rfl)
theorem dX4_meanWord_10 : decode cX4_meanWord 10 = .ok (.bipush 64, 2) := dk_16 64 (dk_at dksX4_meanWord_0 10 rfl rfl)
theorem dX4_meanWord_12 : decode cX4_meanWord 12 = .ok (.if_icmp .ge 17, 3) := dk_162 0 17 (dk_at dksX4_meanWord_0 12 rfl rfl)
theorem dX4_meanWord_15 : decode cX4_meanWord 15 = .ok (.iload_n 1, 1) := dk_27 (dk_at dksX4_meanWord_0 15 rfl rfl)
theorem dX4_meanWord_16 : decode cX4_meanWord 16 = .ok (.aload_n 0, 1) := dk_42 (dk_at dksX4_meanWord_0 16 rfl rfl)
theorem dX4_meanWord_17 : decode cX4_meanWord 17 = .ok (.iload_n 2, 1) := dk_28 (dk_at dksX4_meanWord_0 17 rfl rfl)
theorem dX4_meanWord_18 : decode cX4_meanWord 18 = .ok (.invokevirtual 159, 3) := dk_182 0 159 (dk_at dksX4_meanWord_0 18 rfl rfl)
theorem dX4_meanWord_21 : decode cX4_meanWord 21 = .ok (.iadd, 1) := dk_96 (dk_at dksX4_meanWord_0 21 rfl rfl)
theorem dX4_meanWord_22 : decode cX4_meanWord 22 = .ok (.istore_n 1, 1) := dk_60 (dk_at dksX4_meanWord_0 22 rfl rfl)
theorem dX4_meanWord_23 : decode cX4_meanWord 23 = .ok (.iinc 2 1, 3) := dk_132 2 1 (dk_at dksX4_meanWord_1 0 rfl rfl)
theorem dX4_meanWord_26 : decode cX4_meanWord 26 = .ok (.goto (-17), 3) := dk_167 255 239 (dk_at dksX4_meanWord_1 3 rfl rfl)
theorem dX4_meanWord_29 : decode cX4_meanWord 29 = .ok (.iload_n 1, 1) := dk_27 (dk_at dksX4_meanWord_1 6 rfl rfl)
theorem dX4_meanWord_30 : decode cX4_meanWord 30 = .ok (.i2d, 1) := dk_135 (dk_at dksX4_meanWord_1 7 rfl rfl)
theorem dX4_meanWord_31 : decode cX4_meanWord 31 = .ok (.ldc2_w 245, 3) := dk_20 0 245 (dk_at dksX4_meanWord_1 8 rfl rfl)
theorem dX4_meanWord_34 : decode cX4_meanWord 34 = .ok (.ddiv, 1) := dk_111 (dk_at dksX4_meanWord_1 11 rfl rfl)
theorem dX4_meanWord_35 : decode cX4_meanWord 35 = .ok (.dreturn, 1) := dk_175 (dk_at dksX4_meanWord_1 12 rfl rfl)
abbrev cX4_account : ByteArray := prog_15_method_83_code
def yX4_account : MethodName := ⟨RX4, "account", "(I)I"⟩
def dkwX4_account_5 : List UInt8 := [182, 0, 119, 172, 42, 4, 182, 0, 57, 172]
abbrev dktX4_account_5 : List UInt8 := dkwX4_account_5 ++ []
def dkwX4_account_4 : List UInt8 := [27, 96, 16, 8, 100, 46, 182, 0, 119, 172, 42, 42, 180, 0, 165, 182, 0, 119, 172, 42, 42, 180, 0, 65]
abbrev dktX4_account_4 : List UInt8 := dkwX4_account_4 ++ dktX4_account_5
def dkwX4_account_3 : List UInt8 := [182, 0, 250, 182, 0, 119, 172, 42, 42, 182, 0, 149, 182, 0, 119, 172, 42, 42, 180, 0, 7, 17, 1, 27]
abbrev dktX4_account_3 : List UInt8 := dkwX4_account_3 ++ dktX4_account_4
def dkwX4_account_2 : List UInt8 := [42, 42, 180, 0, 7, 27, 46, 182, 0, 119, 172, 42, 42, 182, 0, 247, 182, 0, 119, 172, 42, 42]
abbrev dktX4_account_2 : List UInt8 := dkwX4_account_2 ++ dktX4_account_3
def dkwX4_account_1 : List UInt8 := [170, 0, 0, 0, 0, 0, 169, 0, 0, 0, 0, 0, 0, 0, 19, 0, 0, 0, 95, 0, 0, 0, 95, 0, 0, 0, 95, 0, 0, 0, 95, 0, 0, 0, 95, 0, 0, 0, 106, 0, 0, 0, 115, 0, 0, 0, 124, 0, 0, 0, 133, 0, 0, 0, 133, 0, 0, 0, 133, 0, 0, 0, 133, 0, 0, 0, 133, 0, 0, 0, 133, 0, 0, 0, 133, 0, 0, 0, 133, 0, 0, 0, 133, 0, 0, 0, 133, 0, 0, 0, 151, 0, 0, 0, 160]
abbrev dktX4_account_1 : List UInt8 := dkwX4_account_1 ++ dktX4_account_2
def dkwX4_account_0 : List UInt8 := [27]
abbrev dktX4_account_0 : List UInt8 := dkwX4_account_0 ++ dktX4_account_1
theorem dksX4_account_0 : cX4_account.data.toList.drop 0 = dktX4_account_0 := by decide +kernel
theorem dksX4_account_1 : cX4_account.data.toList.drop 1 = dktX4_account_1 := dk_seg dksX4_account_0 1 rfl rfl
theorem dksX4_account_2 : cX4_account.data.toList.drop 96 = dktX4_account_2 := dk_seg dksX4_account_1 95 rfl rfl
theorem dksX4_account_3 : cX4_account.data.toList.drop 118 = dktX4_account_3 := dk_seg dksX4_account_2 22 rfl rfl
theorem dksX4_account_4 : cX4_account.data.toList.drop 142 = dktX4_account_4 := dk_seg dksX4_account_3 24 rfl rfl
theorem dksX4_account_5 : cX4_account.data.toList.drop 166 = dktX4_account_5 := dk_seg dksX4_account_4 24 rfl rfl
theorem dX4_account_0 : decode cX4_account 0 = .ok (.iload_n 1, 1) := dk_27 (dk_at dksX4_account_0 0 rfl rfl)
theorem dX4_account_1 : decode cX4_account 1 = .ok (.tableswitch 169 0 19 #[95, 95, 95, 95, 95, 106, 115, 124, 133, 133, 133, 133, 133, 133, 133, 133, 133, 133, 151, 160], 95) := by decide +kernel
theorem dX4_account_96 : decode cX4_account 96 = .ok (.aload_n 0, 1) := dk_42 (dk_at dksX4_account_2 0 rfl rfl)
theorem dX4_account_97 : decode cX4_account 97 = .ok (.aload_n 0, 1) := dk_42 (dk_at dksX4_account_2 1 rfl rfl)
theorem dX4_account_98 : decode cX4_account 98 = .ok (.getfield 7, 3) := dk_180 0 7 (dk_at dksX4_account_2 2 rfl rfl)
theorem dX4_account_101 : decode cX4_account 101 = .ok (.iload_n 1, 1) := dk_27 (dk_at dksX4_account_2 5 rfl rfl)
theorem dX4_account_102 : decode cX4_account 102 = .ok (.iaload, 1) := dk_46 (dk_at dksX4_account_2 6 rfl rfl)
theorem dX4_account_103 : decode cX4_account 103 = .ok (.invokevirtual 119, 3) := dk_182 0 119 (dk_at dksX4_account_2 7 rfl rfl)
theorem dX4_account_106 : decode cX4_account 106 = .ok (.ireturn, 1) := dk_172 (dk_at dksX4_account_2 10 rfl rfl)
theorem dX4_account_107 : decode cX4_account 107 = .ok (.aload_n 0, 1) := dk_42 (dk_at dksX4_account_2 11 rfl rfl)
theorem dX4_account_108 : decode cX4_account 108 = .ok (.aload_n 0, 1) := dk_42 (dk_at dksX4_account_2 12 rfl rfl)
theorem dX4_account_109 : decode cX4_account 109 = .ok (.invokevirtual 247, 3) := dk_182 0 247 (dk_at dksX4_account_2 13 rfl rfl)
theorem dX4_account_112 : decode cX4_account 112 = .ok (.invokevirtual 119, 3) := dk_182 0 119 (dk_at dksX4_account_2 16 rfl rfl)
theorem dX4_account_115 : decode cX4_account 115 = .ok (.ireturn, 1) := dk_172 (dk_at dksX4_account_2 19 rfl rfl)
theorem dX4_account_116 : decode cX4_account 116 = .ok (.aload_n 0, 1) := dk_42 (dk_at dksX4_account_2 20 rfl rfl)
theorem dX4_account_117 : decode cX4_account 117 = .ok (.aload_n 0, 1) := dk_42 (dk_at dksX4_account_2 21 rfl rfl)
theorem dX4_account_118 : decode cX4_account 118 = .ok (.invokevirtual 250, 3) := dk_182 0 250 (dk_at dksX4_account_3 0 rfl rfl)
theorem dX4_account_121 : decode cX4_account 121 = .ok (.invokevirtual 119, 3) := dk_182 0 119 (dk_at dksX4_account_3 3 rfl rfl)
theorem dX4_account_124 : decode cX4_account 124 = .ok (.ireturn, 1) := dk_172 (dk_at dksX4_account_3 6 rfl rfl)
theorem dX4_account_125 : decode cX4_account 125 = .ok (.aload_n 0, 1) := dk_42 (dk_at dksX4_account_3 7 rfl rfl)
theorem dX4_account_126 : decode cX4_account 126 = .ok (.aload_n 0, 1) := dk_42 (dk_at dksX4_account_3 8 rfl rfl)
theorem dX4_account_127 : decode cX4_account 127 = .ok (.invokevirtual 149, 3) := dk_182 0 149 (dk_at dksX4_account_3 9 rfl rfl)
theorem dX4_account_130 : decode cX4_account 130 = .ok (.invokevirtual 119, 3) := dk_182 0 119 (dk_at dksX4_account_3 12 rfl rfl)
theorem dX4_account_133 : decode cX4_account 133 = .ok (.ireturn, 1) := dk_172 (dk_at dksX4_account_3 15 rfl rfl)
theorem dX4_account_134 : decode cX4_account 134 = .ok (.aload_n 0, 1) := dk_42 (dk_at dksX4_account_3 16 rfl rfl)
theorem dX4_account_135 : decode cX4_account 135 = .ok (.aload_n 0, 1) := dk_42 (dk_at dksX4_account_3 17 rfl rfl)
theorem dX4_account_136 : decode cX4_account 136 = .ok (.getfield 7, 3) := dk_180 0 7 (dk_at dksX4_account_3 18 rfl rfl)
theorem dX4_account_139 : decode cX4_account 139 = .ok (.sipush 283, 3) := dk_17 1 27 (dk_at dksX4_account_3 21 rfl rfl)
theorem dX4_account_142 : decode cX4_account 142 = .ok (.iload_n 1, 1) := dk_27 (dk_at dksX4_account_4 0 rfl rfl)
theorem dX4_account_143 : decode cX4_account 143 = .ok (.iadd, 1) := dk_96 (dk_at dksX4_account_4 1 rfl rfl)
theorem dX4_account_144 : decode cX4_account 144 = .ok (.bipush 8, 2) := dk_16 8 (dk_at dksX4_account_4 2 rfl rfl)
theorem dX4_account_146 : decode cX4_account 146 = .ok (.isub, 1) := dk_100 (dk_at dksX4_account_4 4 rfl rfl)
theorem dX4_account_147 : decode cX4_account 147 = .ok (.iaload, 1) := dk_46 (dk_at dksX4_account_4 5 rfl rfl)
theorem dX4_account_148 : decode cX4_account 148 = .ok (.invokevirtual 119, 3) := dk_182 0 119 (dk_at dksX4_account_4 6 rfl rfl)
theorem dX4_account_151 : decode cX4_account 151 = .ok (.ireturn, 1) := dk_172 (dk_at dksX4_account_4 9 rfl rfl)
theorem dX4_account_152 : decode cX4_account 152 = .ok (.aload_n 0, 1) := dk_42 (dk_at dksX4_account_4 10 rfl rfl)
theorem dX4_account_153 : decode cX4_account 153 = .ok (.aload_n 0, 1) := dk_42 (dk_at dksX4_account_4 11 rfl rfl)
theorem dX4_account_154 : decode cX4_account 154 = .ok (.getfield 165, 3) := dk_180 0 165 (dk_at dksX4_account_4 12 rfl rfl)
theorem dX4_account_157 : decode cX4_account 157 = .ok (.invokevirtual 119, 3) := dk_182 0 119 (dk_at dksX4_account_4 15 rfl rfl)
theorem dX4_account_160 : decode cX4_account 160 = .ok (.ireturn, 1) := dk_172 (dk_at dksX4_account_4 18 rfl rfl)
theorem dX4_account_161 : decode cX4_account 161 = .ok (.aload_n 0, 1) := dk_42 (dk_at dksX4_account_4 19 rfl rfl)
theorem dX4_account_162 : decode cX4_account 162 = .ok (.aload_n 0, 1) := dk_42 (dk_at dksX4_account_4 20 rfl rfl)
theorem dX4_account_163 : decode cX4_account 163 = .ok (.getfield 65, 3) := dk_180 0 65 (dk_at dksX4_account_4 21 rfl rfl)
theorem dX4_account_166 : decode cX4_account 166 = .ok (.invokevirtual 119, 3) := dk_182 0 119 (dk_at dksX4_account_5 0 rfl rfl)
theorem dX4_account_169 : decode cX4_account 169 = .ok (.ireturn, 1) := dk_172 (dk_at dksX4_account_5 3 rfl rfl)
theorem dX4_account_170 : decode cX4_account 170 = .ok (.aload_n 0, 1) := dk_42 (dk_at dksX4_account_5 4 rfl rfl)
theorem dX4_account_171 : decode cX4_account 171 = .ok (.iconst 1, 1) := dk_4 (dk_at dksX4_account_5 5 rfl rfl)
theorem dX4_account_172 : decode cX4_account 172 = .ok (.invokevirtual 57, 3) := dk_182 0 57 (dk_at dksX4_account_5 6 rfl rfl)
theorem dX4_account_175 : decode cX4_account 175 = .ok (.ireturn, 1) := dk_172 (dk_at dksX4_account_5 9 rfl rfl)
abbrev cX4_holding : ByteArray := prog_15_method_81_code
def yX4_holding : MethodName := ⟨RX4, "holding", "()I"⟩
def dkwX4_holding_1 : List UInt8 := [3, 167, 0, 4, 4, 96, 60, 132, 2, 1, 167, 255, 226, 27, 172]
abbrev dktX4_holding_1 : List UInt8 := dkwX4_holding_1 ++ []
def dkwX4_holding_0 : List UInt8 := [3, 60, 3, 61, 28, 16, 16, 162, 0, 30, 27, 42, 180, 0, 7, 16, 73, 28, 96, 46, 2, 160, 0, 7]
abbrev dktX4_holding_0 : List UInt8 := dkwX4_holding_0 ++ dktX4_holding_1
theorem dksX4_holding_0 : cX4_holding.data.toList.drop 0 = dktX4_holding_0 := by decide +kernel
theorem dksX4_holding_1 : cX4_holding.data.toList.drop 24 = dktX4_holding_1 := dk_seg dksX4_holding_0 24 rfl rfl
theorem dX4_holding_0 : decode cX4_holding 0 = .ok (.iconst 0, 1) := dk_3 (dk_at dksX4_holding_0 0 rfl rfl)
theorem dX4_holding_1 : decode cX4_holding 1 = .ok (.istore_n 1, 1) := dk_60 (dk_at dksX4_holding_0 1 rfl rfl)
theorem dX4_holding_2 : decode cX4_holding 2 = .ok (.iconst 0, 1) := dk_3 (dk_at dksX4_holding_0 2 rfl rfl)
theorem dX4_holding_3 : decode cX4_holding 3 = .ok (.istore_n 2, 1) := dk_61 (dk_at dksX4_holding_0 3 rfl rfl)
theorem dX4_holding_4 : decode cX4_holding 4 = .ok (.iload_n 2, 1) := dk_28 (dk_at dksX4_holding_0 4 rfl rfl)
theorem dX4_holding_5 : decode cX4_holding 5 = .ok (.bipush 16, 2) := dk_16 16 (dk_at dksX4_holding_0 5 rfl rfl)
theorem dX4_holding_7 : decode cX4_holding 7 = .ok (.if_icmp .ge 30, 3) := dk_162 0 30 (dk_at dksX4_holding_0 7 rfl rfl)
theorem dX4_holding_10 : decode cX4_holding 10 = .ok (.iload_n 1, 1) := dk_27 (dk_at dksX4_holding_0 10 rfl rfl)
theorem dX4_holding_11 : decode cX4_holding 11 = .ok (.aload_n 0, 1) := dk_42 (dk_at dksX4_holding_0 11 rfl rfl)
theorem dX4_holding_12 : decode cX4_holding 12 = .ok (.getfield 7, 3) := dk_180 0 7 (dk_at dksX4_holding_0 12 rfl rfl)
theorem dX4_holding_15 : decode cX4_holding 15 = .ok (.bipush 73, 2) := dk_16 73 (dk_at dksX4_holding_0 15 rfl rfl)
theorem dX4_holding_17 : decode cX4_holding 17 = .ok (.iload_n 2, 1) := dk_28 (dk_at dksX4_holding_0 17 rfl rfl)
theorem dX4_holding_18 : decode cX4_holding 18 = .ok (.iadd, 1) := dk_96 (dk_at dksX4_holding_0 18 rfl rfl)
theorem dX4_holding_19 : decode cX4_holding 19 = .ok (.iaload, 1) := dk_46 (dk_at dksX4_holding_0 19 rfl rfl)
theorem dX4_holding_20 : decode cX4_holding 20 = .ok (.iconst (-1), 1) := dk_2 (dk_at dksX4_holding_0 20 rfl rfl)
theorem dX4_holding_21 : decode cX4_holding 21 = .ok (.if_icmp .ne 7, 3) := dk_160 0 7 (dk_at dksX4_holding_0 21 rfl rfl)
theorem dX4_holding_24 : decode cX4_holding 24 = .ok (.iconst 0, 1) := dk_3 (dk_at dksX4_holding_1 0 rfl rfl)
theorem dX4_holding_25 : decode cX4_holding 25 = .ok (.goto 4, 3) := dk_167 0 4 (dk_at dksX4_holding_1 1 rfl rfl)
theorem dX4_holding_28 : decode cX4_holding 28 = .ok (.iconst 1, 1) := dk_4 (dk_at dksX4_holding_1 4 rfl rfl)
theorem dX4_holding_29 : decode cX4_holding 29 = .ok (.iadd, 1) := dk_96 (dk_at dksX4_holding_1 5 rfl rfl)
theorem dX4_holding_30 : decode cX4_holding 30 = .ok (.istore_n 1, 1) := dk_60 (dk_at dksX4_holding_1 6 rfl rfl)
theorem dX4_holding_31 : decode cX4_holding 31 = .ok (.iinc 2 1, 3) := dk_132 2 1 (dk_at dksX4_holding_1 7 rfl rfl)
theorem dX4_holding_34 : decode cX4_holding 34 = .ok (.goto (-30), 3) := dk_167 255 226 (dk_at dksX4_holding_1 10 rfl rfl)
theorem dX4_holding_37 : decode cX4_holding 37 = .ok (.iload_n 1, 1) := dk_27 (dk_at dksX4_holding_1 13 rfl rfl)
theorem dX4_holding_38 : decode cX4_holding 38 = .ok (.ireturn, 1) := dk_172 (dk_at dksX4_holding_1 14 rfl rfl)
abbrev cX4_allPinned : ByteArray := prog_15_method_82_code
def yX4_allPinned : MethodName := ⟨RX4, "allPinned", "()I"⟩
def dkwX4_allPinned_1 : List UInt8 := [172]
abbrev dktX4_allPinned_1 : List UInt8 := dkwX4_allPinned_1 ++ []
def dkwX4_allPinned_0 : List UInt8 := [3, 60, 3, 61, 28, 7, 162, 0, 17, 27, 42, 28, 182, 0, 143, 96, 60, 132, 2, 1, 167, 255, 240, 27]
abbrev dktX4_allPinned_0 : List UInt8 := dkwX4_allPinned_0 ++ dktX4_allPinned_1
theorem dksX4_allPinned_0 : cX4_allPinned.data.toList.drop 0 = dktX4_allPinned_0 := by decide +kernel
theorem dksX4_allPinned_1 : cX4_allPinned.data.toList.drop 24 = dktX4_allPinned_1 := dk_seg dksX4_allPinned_0 24 rfl rfl
theorem dX4_allPinned_0 : decode cX4_allPinned 0 = .ok (.iconst 0, 1) := dk_3 (dk_at dksX4_allPinned_0 0 rfl rfl)
theorem dX4_allPinned_1 : decode cX4_allPinned 1 = .ok (.istore_n 1, 1) := dk_60 (dk_at dksX4_allPinned_0 1 rfl rfl)
theorem dX4_allPinned_2 : decode cX4_allPinned 2 = .ok (.iconst 0, 1) := dk_3 (dk_at dksX4_allPinned_0 2 rfl rfl)
theorem dX4_allPinned_3 : decode cX4_allPinned 3 = .ok (.istore_n 2, 1) := dk_61 (dk_at dksX4_allPinned_0 3 rfl rfl)
theorem dX4_allPinned_4 : decode cX4_allPinned 4 = .ok (.iload_n 2, 1) := dk_28 (dk_at dksX4_allPinned_0 4 rfl rfl)
theorem dX4_allPinned_5 : decode cX4_allPinned 5 = .ok (.iconst 4, 1) := dk_7 (dk_at dksX4_allPinned_0 5 rfl rfl)
theorem dX4_allPinned_6 : decode cX4_allPinned 6 = .ok (.if_icmp .ge 17, 3) := dk_162 0 17 (dk_at dksX4_allPinned_0 6 rfl rfl)
theorem dX4_allPinned_9 : decode cX4_allPinned 9 = .ok (.iload_n 1, 1) := dk_27 (dk_at dksX4_allPinned_0 9 rfl rfl)
theorem dX4_allPinned_10 : decode cX4_allPinned 10 = .ok (.aload_n 0, 1) := dk_42 (dk_at dksX4_allPinned_0 10 rfl rfl)
theorem dX4_allPinned_11 : decode cX4_allPinned 11 = .ok (.iload_n 2, 1) := dk_28 (dk_at dksX4_allPinned_0 11 rfl rfl)
theorem dX4_allPinned_12 : decode cX4_allPinned 12 = .ok (.invokevirtual 143, 3) := dk_182 0 143 (dk_at dksX4_allPinned_0 12 rfl rfl)
theorem dX4_allPinned_15 : decode cX4_allPinned 15 = .ok (.iadd, 1) := dk_96 (dk_at dksX4_allPinned_0 15 rfl rfl)
theorem dX4_allPinned_16 : decode cX4_allPinned 16 = .ok (.istore_n 1, 1) := dk_60 (dk_at dksX4_allPinned_0 16 rfl rfl)
theorem dX4_allPinned_17 : decode cX4_allPinned 17 = .ok (.iinc 2 1, 3) := dk_132 2 1 (dk_at dksX4_allPinned_0 17 rfl rfl)
theorem dX4_allPinned_20 : decode cX4_allPinned 20 = .ok (.goto (-16), 3) := dk_167 255 240 (dk_at dksX4_allPinned_0 20 rfl rfl)
theorem dX4_allPinned_23 : decode cX4_allPinned 23 = .ok (.iload_n 1, 1) := dk_27 (dk_at dksX4_allPinned_0 23 rfl rfl)
theorem dX4_allPinned_24 : decode cX4_allPinned 24 = .ok (.ireturn, 1) := dk_172 (dk_at dksX4_allPinned_1 0 rfl rfl)
abbrev cX4_isBalanced : ByteArray := prog_15_method_85_code
def yX4_isBalanced : MethodName := ⟨RX4, "isBalanced", "()Z"⟩
def dkwX4_isBalanced_5 : List UInt8 := [167, 0, 4, 3, 60, 132, 2, 1, 167, 255, 199, 27, 172]
abbrev dktX4_isBalanced_5 : List UInt8 := dkwX4_isBalanced_5 ++ []
def dkwX4_isBalanced_4 : List UInt8 := [2, 159, 0, 20, 42, 42, 180, 0, 7, 16, 73, 28, 96, 46, 182, 0, 97, 28, 160, 0, 7, 4]
abbrev dktX4_isBalanced_4 : List UInt8 := dkwX4_isBalanced_4 ++ dktX4_isBalanced_5
def dkwX4_isBalanced_3 : List UInt8 := [162, 0, 57, 27, 153, 0, 45, 42, 28, 182, 0, 253, 153, 0, 37, 42, 180, 0, 7, 16, 73, 28, 96, 46]
abbrev dktX4_isBalanced_3 : List UInt8 := dkwX4_isBalanced_3 ++ dktX4_isBalanced_4
def dkwX4_isBalanced_2 : List UInt8 := [96, 42, 180, 0, 7, 17, 1, 32, 46, 96, 160, 0, 7, 4, 167, 0, 4, 3, 60, 3, 61, 28, 16, 16]
abbrev dktX4_isBalanced_2 : List UInt8 := dkwX4_isBalanced_2 ++ dktX4_isBalanced_3
def dkwX4_isBalanced_1 : List UInt8 := [180, 0, 7, 17, 1, 29, 46, 42, 180, 0, 7, 17, 1, 30, 46, 96, 42, 180, 0, 7, 17, 1, 31, 46]
abbrev dktX4_isBalanced_1 : List UInt8 := dkwX4_isBalanced_1 ++ dktX4_isBalanced_2
def dkwX4_isBalanced_0 : List UInt8 := [42, 3, 181, 0, 42, 42, 180, 0, 7, 17, 1, 27, 46, 42, 180, 0, 7, 17, 1, 28, 46, 96, 42]
abbrev dktX4_isBalanced_0 : List UInt8 := dkwX4_isBalanced_0 ++ dktX4_isBalanced_1
theorem dksX4_isBalanced_0 : cX4_isBalanced.data.toList.drop 0 = dktX4_isBalanced_0 := by decide +kernel
theorem dksX4_isBalanced_1 : cX4_isBalanced.data.toList.drop 23 = dktX4_isBalanced_1 := dk_seg dksX4_isBalanced_0 23 rfl rfl
theorem dksX4_isBalanced_2 : cX4_isBalanced.data.toList.drop 47 = dktX4_isBalanced_2 := dk_seg dksX4_isBalanced_1 24 rfl rfl
theorem dksX4_isBalanced_3 : cX4_isBalanced.data.toList.drop 71 = dktX4_isBalanced_3 := dk_seg dksX4_isBalanced_2 24 rfl rfl
theorem dksX4_isBalanced_4 : cX4_isBalanced.data.toList.drop 95 = dktX4_isBalanced_4 := dk_seg dksX4_isBalanced_3 24 rfl rfl
theorem dksX4_isBalanced_5 : cX4_isBalanced.data.toList.drop 117 = dktX4_isBalanced_5 := dk_seg dksX4_isBalanced_4 22 rfl rfl
theorem dX4_isBalanced_0 : decode cX4_isBalanced 0 = .ok (.aload_n 0, 1) := dk_42 (dk_at dksX4_isBalanced_0 0 rfl rfl)
theorem dX4_isBalanced_1 : decode cX4_isBalanced 1 = .ok (.iconst 0, 1) := dk_3 (dk_at dksX4_isBalanced_0 1 rfl rfl)
theorem dX4_isBalanced_2 : decode cX4_isBalanced 2 = .ok (.putfield 42, 3) := dk_181 0 42 (dk_at dksX4_isBalanced_0 2 rfl rfl)
theorem dX4_isBalanced_5 : decode cX4_isBalanced 5 = .ok (.aload_n 0, 1) := dk_42 (dk_at dksX4_isBalanced_0 5 rfl rfl)
theorem dX4_isBalanced_6 : decode cX4_isBalanced 6 = .ok (.getfield 7, 3) := dk_180 0 7 (dk_at dksX4_isBalanced_0 6 rfl rfl)
theorem dX4_isBalanced_9 : decode cX4_isBalanced 9 = .ok (.sipush 283, 3) := dk_17 1 27 (dk_at dksX4_isBalanced_0 9 rfl rfl)
theorem dX4_isBalanced_12 : decode cX4_isBalanced 12 = .ok (.iaload, 1) := dk_46 (dk_at dksX4_isBalanced_0 12 rfl rfl)
theorem dX4_isBalanced_13 : decode cX4_isBalanced 13 = .ok (.aload_n 0, 1) := dk_42 (dk_at dksX4_isBalanced_0 13 rfl rfl)
theorem dX4_isBalanced_14 : decode cX4_isBalanced 14 = .ok (.getfield 7, 3) := dk_180 0 7 (dk_at dksX4_isBalanced_0 14 rfl rfl)
theorem dX4_isBalanced_17 : decode cX4_isBalanced 17 = .ok (.sipush 284, 3) := dk_17 1 28 (dk_at dksX4_isBalanced_0 17 rfl rfl)
theorem dX4_isBalanced_20 : decode cX4_isBalanced 20 = .ok (.iaload, 1) := dk_46 (dk_at dksX4_isBalanced_0 20 rfl rfl)
theorem dX4_isBalanced_21 : decode cX4_isBalanced 21 = .ok (.iadd, 1) := dk_96 (dk_at dksX4_isBalanced_0 21 rfl rfl)
theorem dX4_isBalanced_22 : decode cX4_isBalanced 22 = .ok (.aload_n 0, 1) := dk_42 (dk_at dksX4_isBalanced_0 22 rfl rfl)
theorem dX4_isBalanced_23 : decode cX4_isBalanced 23 = .ok (.getfield 7, 3) := dk_180 0 7 (dk_at dksX4_isBalanced_1 0 rfl rfl)
theorem dX4_isBalanced_26 : decode cX4_isBalanced 26 = .ok (.sipush 285, 3) := dk_17 1 29 (dk_at dksX4_isBalanced_1 3 rfl rfl)
theorem dX4_isBalanced_29 : decode cX4_isBalanced 29 = .ok (.iaload, 1) := dk_46 (dk_at dksX4_isBalanced_1 6 rfl rfl)
theorem dX4_isBalanced_30 : decode cX4_isBalanced 30 = .ok (.aload_n 0, 1) := dk_42 (dk_at dksX4_isBalanced_1 7 rfl rfl)
theorem dX4_isBalanced_31 : decode cX4_isBalanced 31 = .ok (.getfield 7, 3) := dk_180 0 7 (dk_at dksX4_isBalanced_1 8 rfl rfl)
theorem dX4_isBalanced_34 : decode cX4_isBalanced 34 = .ok (.sipush 286, 3) := dk_17 1 30 (dk_at dksX4_isBalanced_1 11 rfl rfl)
theorem dX4_isBalanced_37 : decode cX4_isBalanced 37 = .ok (.iaload, 1) := dk_46 (dk_at dksX4_isBalanced_1 14 rfl rfl)
theorem dX4_isBalanced_38 : decode cX4_isBalanced 38 = .ok (.iadd, 1) := dk_96 (dk_at dksX4_isBalanced_1 15 rfl rfl)
theorem dX4_isBalanced_39 : decode cX4_isBalanced 39 = .ok (.aload_n 0, 1) := dk_42 (dk_at dksX4_isBalanced_1 16 rfl rfl)
theorem dX4_isBalanced_40 : decode cX4_isBalanced 40 = .ok (.getfield 7, 3) := dk_180 0 7 (dk_at dksX4_isBalanced_1 17 rfl rfl)
theorem dX4_isBalanced_43 : decode cX4_isBalanced 43 = .ok (.sipush 287, 3) := dk_17 1 31 (dk_at dksX4_isBalanced_1 20 rfl rfl)
theorem dX4_isBalanced_46 : decode cX4_isBalanced 46 = .ok (.iaload, 1) := dk_46 (dk_at dksX4_isBalanced_1 23 rfl rfl)
theorem dX4_isBalanced_47 : decode cX4_isBalanced 47 = .ok (.iadd, 1) := dk_96 (dk_at dksX4_isBalanced_2 0 rfl rfl)
theorem dX4_isBalanced_48 : decode cX4_isBalanced 48 = .ok (.aload_n 0, 1) := dk_42 (dk_at dksX4_isBalanced_2 1 rfl rfl)
theorem dX4_isBalanced_49 : decode cX4_isBalanced 49 = .ok (.getfield 7, 3) := dk_180 0 7 (dk_at dksX4_isBalanced_2 2 rfl rfl)
theorem dX4_isBalanced_52 : decode cX4_isBalanced 52 = .ok (.sipush 288, 3) := dk_17 1 32 (dk_at dksX4_isBalanced_2 5 rfl rfl)
theorem dX4_isBalanced_55 : decode cX4_isBalanced 55 = .ok (.iaload, 1) := dk_46 (dk_at dksX4_isBalanced_2 8 rfl rfl)
theorem dX4_isBalanced_56 : decode cX4_isBalanced 56 = .ok (.iadd, 1) := dk_96 (dk_at dksX4_isBalanced_2 9 rfl rfl)
theorem dX4_isBalanced_57 : decode cX4_isBalanced 57 = .ok (.if_icmp .ne 7, 3) := dk_160 0 7 (dk_at dksX4_isBalanced_2 10 rfl rfl)
theorem dX4_isBalanced_60 : decode cX4_isBalanced 60 = .ok (.iconst 1, 1) := dk_4 (dk_at dksX4_isBalanced_2 13 rfl rfl)
theorem dX4_isBalanced_61 : decode cX4_isBalanced 61 = .ok (.goto 4, 3) := dk_167 0 4 (dk_at dksX4_isBalanced_2 14 rfl rfl)
theorem dX4_isBalanced_64 : decode cX4_isBalanced 64 = .ok (.iconst 0, 1) := dk_3 (dk_at dksX4_isBalanced_2 17 rfl rfl)
theorem dX4_isBalanced_65 : decode cX4_isBalanced 65 = .ok (.istore_n 1, 1) := dk_60 (dk_at dksX4_isBalanced_2 18 rfl rfl)
theorem dX4_isBalanced_66 : decode cX4_isBalanced 66 = .ok (.iconst 0, 1) := dk_3 (dk_at dksX4_isBalanced_2 19 rfl rfl)
theorem dX4_isBalanced_67 : decode cX4_isBalanced 67 = .ok (.istore_n 2, 1) := dk_61 (dk_at dksX4_isBalanced_2 20 rfl rfl)
theorem dX4_isBalanced_68 : decode cX4_isBalanced 68 = .ok (.iload_n 2, 1) := dk_28 (dk_at dksX4_isBalanced_2 21 rfl rfl)
theorem dX4_isBalanced_69 : decode cX4_isBalanced 69 = .ok (.bipush 16, 2) := dk_16 16 (dk_at dksX4_isBalanced_2 22 rfl rfl)
theorem dX4_isBalanced_71 : decode cX4_isBalanced 71 = .ok (.if_icmp .ge 57, 3) := dk_162 0 57 (dk_at dksX4_isBalanced_3 0 rfl rfl)
theorem dX4_isBalanced_74 : decode cX4_isBalanced 74 = .ok (.iload_n 1, 1) := dk_27 (dk_at dksX4_isBalanced_3 3 rfl rfl)
theorem dX4_isBalanced_75 : decode cX4_isBalanced 75 = .ok (.ifCond .eq 45, 3) := dk_153 0 45 (dk_at dksX4_isBalanced_3 4 rfl rfl)
theorem dX4_isBalanced_78 : decode cX4_isBalanced 78 = .ok (.aload_n 0, 1) := dk_42 (dk_at dksX4_isBalanced_3 7 rfl rfl)
theorem dX4_isBalanced_79 : decode cX4_isBalanced 79 = .ok (.iload_n 2, 1) := dk_28 (dk_at dksX4_isBalanced_3 8 rfl rfl)
theorem dX4_isBalanced_80 : decode cX4_isBalanced 80 = .ok (.invokevirtual 253, 3) := dk_182 0 253 (dk_at dksX4_isBalanced_3 9 rfl rfl)
theorem dX4_isBalanced_83 : decode cX4_isBalanced 83 = .ok (.ifCond .eq 37, 3) := dk_153 0 37 (dk_at dksX4_isBalanced_3 12 rfl rfl)
theorem dX4_isBalanced_86 : decode cX4_isBalanced 86 = .ok (.aload_n 0, 1) := dk_42 (dk_at dksX4_isBalanced_3 15 rfl rfl)
theorem dX4_isBalanced_87 : decode cX4_isBalanced 87 = .ok (.getfield 7, 3) := dk_180 0 7 (dk_at dksX4_isBalanced_3 16 rfl rfl)
theorem dX4_isBalanced_90 : decode cX4_isBalanced 90 = .ok (.bipush 73, 2) := dk_16 73 (dk_at dksX4_isBalanced_3 19 rfl rfl)
theorem dX4_isBalanced_92 : decode cX4_isBalanced 92 = .ok (.iload_n 2, 1) := dk_28 (dk_at dksX4_isBalanced_3 21 rfl rfl)
theorem dX4_isBalanced_93 : decode cX4_isBalanced 93 = .ok (.iadd, 1) := dk_96 (dk_at dksX4_isBalanced_3 22 rfl rfl)
theorem dX4_isBalanced_94 : decode cX4_isBalanced 94 = .ok (.iaload, 1) := dk_46 (dk_at dksX4_isBalanced_3 23 rfl rfl)
theorem dX4_isBalanced_95 : decode cX4_isBalanced 95 = .ok (.iconst (-1), 1) := dk_2 (dk_at dksX4_isBalanced_4 0 rfl rfl)
theorem dX4_isBalanced_96 : decode cX4_isBalanced 96 = .ok (.if_icmp .eq 20, 3) := dk_159 0 20 (dk_at dksX4_isBalanced_4 1 rfl rfl)
theorem dX4_isBalanced_99 : decode cX4_isBalanced 99 = .ok (.aload_n 0, 1) := dk_42 (dk_at dksX4_isBalanced_4 4 rfl rfl)
theorem dX4_isBalanced_100 : decode cX4_isBalanced 100 = .ok (.aload_n 0, 1) := dk_42 (dk_at dksX4_isBalanced_4 5 rfl rfl)
theorem dX4_isBalanced_101 : decode cX4_isBalanced 101 = .ok (.getfield 7, 3) := dk_180 0 7 (dk_at dksX4_isBalanced_4 6 rfl rfl)
theorem dX4_isBalanced_104 : decode cX4_isBalanced 104 = .ok (.bipush 73, 2) := dk_16 73 (dk_at dksX4_isBalanced_4 9 rfl rfl)
theorem dX4_isBalanced_106 : decode cX4_isBalanced 106 = .ok (.iload_n 2, 1) := dk_28 (dk_at dksX4_isBalanced_4 11 rfl rfl)
theorem dX4_isBalanced_107 : decode cX4_isBalanced 107 = .ok (.iadd, 1) := dk_96 (dk_at dksX4_isBalanced_4 12 rfl rfl)
theorem dX4_isBalanced_108 : decode cX4_isBalanced 108 = .ok (.iaload, 1) := dk_46 (dk_at dksX4_isBalanced_4 13 rfl rfl)
theorem dX4_isBalanced_109 : decode cX4_isBalanced 109 = .ok (.invokevirtual 97, 3) := dk_182 0 97 (dk_at dksX4_isBalanced_4 14 rfl rfl)
theorem dX4_isBalanced_112 : decode cX4_isBalanced 112 = .ok (.iload_n 2, 1) := dk_28 (dk_at dksX4_isBalanced_4 17 rfl rfl)
theorem dX4_isBalanced_113 : decode cX4_isBalanced 113 = .ok (.if_icmp .ne 7, 3) := dk_160 0 7 (dk_at dksX4_isBalanced_4 18 rfl rfl)
theorem dX4_isBalanced_116 : decode cX4_isBalanced 116 = .ok (.iconst 1, 1) := dk_4 (dk_at dksX4_isBalanced_4 21 rfl rfl)
theorem dX4_isBalanced_117 : decode cX4_isBalanced 117 = .ok (.goto 4, 3) := dk_167 0 4 (dk_at dksX4_isBalanced_5 0 rfl rfl)
theorem dX4_isBalanced_120 : decode cX4_isBalanced 120 = .ok (.iconst 0, 1) := dk_3 (dk_at dksX4_isBalanced_5 3 rfl rfl)
theorem dX4_isBalanced_121 : decode cX4_isBalanced 121 = .ok (.istore_n 1, 1) := dk_60 (dk_at dksX4_isBalanced_5 4 rfl rfl)
theorem dX4_isBalanced_122 : decode cX4_isBalanced 122 = .ok (.iinc 2 1, 3) := dk_132 2 1 (dk_at dksX4_isBalanced_5 5 rfl rfl)
theorem dX4_isBalanced_125 : decode cX4_isBalanced 125 = .ok (.goto (-57), 3) := dk_167 255 199 (dk_at dksX4_isBalanced_5 8 rfl rfl)
theorem dX4_isBalanced_128 : decode cX4_isBalanced 128 = .ok (.iload_n 1, 1) := dk_27 (dk_at dksX4_isBalanced_5 11 rfl rfl)
theorem dX4_isBalanced_129 : decode cX4_isBalanced 129 = .ok (.ireturn, 1) := dk_172 (dk_at dksX4_isBalanced_5 12 rfl rfl)
abbrev cX4_isLineRight : ByteArray := prog_15_method_84_code
def yX4_isLineRight : MethodName := ⟨RX4, "isLineRight", "(I)Z"⟩
def dkwX4_isLineRight_4 : List UInt8 := [167, 0, 4, 3, 61, 132, 3, 1, 167, 255, 159, 28, 172]
abbrev dktX4_isLineRight_4 : List UInt8 := dkwX4_isLineRight_4 ++ []
def dkwX4_isLineRight_3 : List UInt8 := [180, 0, 7, 8, 7, 42, 180, 0, 7, 16, 73, 27, 96, 46, 104, 96, 29, 96, 46, 160, 0, 7, 4]
abbrev dktX4_isLineRight_3 : List UInt8 := dkwX4_isLineRight_3 ++ dktX4_isLineRight_4
def dkwX4_isLineRight_2 : List UInt8 := [153, 0, 49, 21, 4, 154, 0, 40, 42, 180, 0, 7, 17, 0, 169, 7, 27, 104, 96, 29, 96, 46, 42]
abbrev dktX4_isLineRight_2 : List UInt8 := dkwX4_isLineRight_2 ++ dktX4_isLineRight_3
def dkwX4_isLineRight_1 : List UInt8 := [180, 0, 7, 16, 89, 27, 96, 46, 29, 122, 4, 126, 4, 160, 0, 7, 4, 167, 0, 4, 3, 54, 4, 28]
abbrev dktX4_isLineRight_1 : List UInt8 := dkwX4_isLineRight_1 ++ dktX4_isLineRight_2
def dkwX4_isLineRight_0 : List UInt8 := [4, 61, 3, 62, 29, 7, 162, 0, 98, 42, 180, 0, 7, 16, 73, 27, 96, 46, 2, 159, 0, 85, 42]
abbrev dktX4_isLineRight_0 : List UInt8 := dkwX4_isLineRight_0 ++ dktX4_isLineRight_1
theorem dksX4_isLineRight_0 : cX4_isLineRight.data.toList.drop 0 = dktX4_isLineRight_0 := by decide +kernel
theorem dksX4_isLineRight_1 : cX4_isLineRight.data.toList.drop 23 = dktX4_isLineRight_1 := dk_seg dksX4_isLineRight_0 23 rfl rfl
theorem dksX4_isLineRight_2 : cX4_isLineRight.data.toList.drop 47 = dktX4_isLineRight_2 := dk_seg dksX4_isLineRight_1 24 rfl rfl
theorem dksX4_isLineRight_3 : cX4_isLineRight.data.toList.drop 70 = dktX4_isLineRight_3 := dk_seg dksX4_isLineRight_2 23 rfl rfl
theorem dksX4_isLineRight_4 : cX4_isLineRight.data.toList.drop 93 = dktX4_isLineRight_4 := dk_seg dksX4_isLineRight_3 23 rfl rfl
theorem dX4_isLineRight_0 : decode cX4_isLineRight 0 = .ok (.iconst 1, 1) := dk_4 (dk_at dksX4_isLineRight_0 0 rfl rfl)
theorem dX4_isLineRight_1 : decode cX4_isLineRight 1 = .ok (.istore_n 2, 1) := dk_61 (dk_at dksX4_isLineRight_0 1 rfl rfl)
theorem dX4_isLineRight_2 : decode cX4_isLineRight 2 = .ok (.iconst 0, 1) := dk_3 (dk_at dksX4_isLineRight_0 2 rfl rfl)
theorem dX4_isLineRight_3 : decode cX4_isLineRight 3 = .ok (.istore_n 3, 1) := dk_62 (dk_at dksX4_isLineRight_0 3 rfl rfl)
theorem dX4_isLineRight_4 : decode cX4_isLineRight 4 = .ok (.iload_n 3, 1) := dk_29 (dk_at dksX4_isLineRight_0 4 rfl rfl)
theorem dX4_isLineRight_5 : decode cX4_isLineRight 5 = .ok (.iconst 4, 1) := dk_7 (dk_at dksX4_isLineRight_0 5 rfl rfl)
theorem dX4_isLineRight_6 : decode cX4_isLineRight 6 = .ok (.if_icmp .ge 98, 3) := dk_162 0 98 (dk_at dksX4_isLineRight_0 6 rfl rfl)
theorem dX4_isLineRight_9 : decode cX4_isLineRight 9 = .ok (.aload_n 0, 1) := dk_42 (dk_at dksX4_isLineRight_0 9 rfl rfl)
theorem dX4_isLineRight_10 : decode cX4_isLineRight 10 = .ok (.getfield 7, 3) := dk_180 0 7 (dk_at dksX4_isLineRight_0 10 rfl rfl)
theorem dX4_isLineRight_13 : decode cX4_isLineRight 13 = .ok (.bipush 73, 2) := dk_16 73 (dk_at dksX4_isLineRight_0 13 rfl rfl)
theorem dX4_isLineRight_15 : decode cX4_isLineRight 15 = .ok (.iload_n 1, 1) := dk_27 (dk_at dksX4_isLineRight_0 15 rfl rfl)
theorem dX4_isLineRight_16 : decode cX4_isLineRight 16 = .ok (.iadd, 1) := dk_96 (dk_at dksX4_isLineRight_0 16 rfl rfl)
theorem dX4_isLineRight_17 : decode cX4_isLineRight 17 = .ok (.iaload, 1) := dk_46 (dk_at dksX4_isLineRight_0 17 rfl rfl)
theorem dX4_isLineRight_18 : decode cX4_isLineRight 18 = .ok (.iconst (-1), 1) := dk_2 (dk_at dksX4_isLineRight_0 18 rfl rfl)
theorem dX4_isLineRight_19 : decode cX4_isLineRight 19 = .ok (.if_icmp .eq 85, 3) := dk_159 0 85 (dk_at dksX4_isLineRight_0 19 rfl rfl)
theorem dX4_isLineRight_22 : decode cX4_isLineRight 22 = .ok (.aload_n 0, 1) := dk_42 (dk_at dksX4_isLineRight_0 22 rfl rfl)
theorem dX4_isLineRight_23 : decode cX4_isLineRight 23 = .ok (.getfield 7, 3) := dk_180 0 7 (dk_at dksX4_isLineRight_1 0 rfl rfl)
theorem dX4_isLineRight_26 : decode cX4_isLineRight 26 = .ok (.bipush 89, 2) := dk_16 89 (dk_at dksX4_isLineRight_1 3 rfl rfl)
theorem dX4_isLineRight_28 : decode cX4_isLineRight 28 = .ok (.iload_n 1, 1) := dk_27 (dk_at dksX4_isLineRight_1 5 rfl rfl)
theorem dX4_isLineRight_29 : decode cX4_isLineRight 29 = .ok (.iadd, 1) := dk_96 (dk_at dksX4_isLineRight_1 6 rfl rfl)
theorem dX4_isLineRight_30 : decode cX4_isLineRight 30 = .ok (.iaload, 1) := dk_46 (dk_at dksX4_isLineRight_1 7 rfl rfl)
theorem dX4_isLineRight_31 : decode cX4_isLineRight 31 = .ok (.iload_n 3, 1) := dk_29 (dk_at dksX4_isLineRight_1 8 rfl rfl)
theorem dX4_isLineRight_32 : decode cX4_isLineRight 32 = .ok (.ishr, 1) := dk_122 (dk_at dksX4_isLineRight_1 9 rfl rfl)
theorem dX4_isLineRight_33 : decode cX4_isLineRight 33 = .ok (.iconst 1, 1) := dk_4 (dk_at dksX4_isLineRight_1 10 rfl rfl)
theorem dX4_isLineRight_34 : decode cX4_isLineRight 34 = .ok (.iand, 1) := dk_126 (dk_at dksX4_isLineRight_1 11 rfl rfl)
theorem dX4_isLineRight_35 : decode cX4_isLineRight 35 = .ok (.iconst 1, 1) := dk_4 (dk_at dksX4_isLineRight_1 12 rfl rfl)
theorem dX4_isLineRight_36 : decode cX4_isLineRight 36 = .ok (.if_icmp .ne 7, 3) := dk_160 0 7 (dk_at dksX4_isLineRight_1 13 rfl rfl)
theorem dX4_isLineRight_39 : decode cX4_isLineRight 39 = .ok (.iconst 1, 1) := dk_4 (dk_at dksX4_isLineRight_1 16 rfl rfl)
theorem dX4_isLineRight_40 : decode cX4_isLineRight 40 = .ok (.goto 4, 3) := dk_167 0 4 (dk_at dksX4_isLineRight_1 17 rfl rfl)
theorem dX4_isLineRight_43 : decode cX4_isLineRight 43 = .ok (.iconst 0, 1) := dk_3 (dk_at dksX4_isLineRight_1 20 rfl rfl)
theorem dX4_isLineRight_44 : decode cX4_isLineRight 44 = .ok (.istore 4, 2) := dk_54 4 (dk_at dksX4_isLineRight_1 21 rfl rfl)
theorem dX4_isLineRight_46 : decode cX4_isLineRight 46 = .ok (.iload_n 2, 1) := dk_28 (dk_at dksX4_isLineRight_1 23 rfl rfl)
theorem dX4_isLineRight_47 : decode cX4_isLineRight 47 = .ok (.ifCond .eq 49, 3) := dk_153 0 49 (dk_at dksX4_isLineRight_2 0 rfl rfl)
theorem dX4_isLineRight_50 : decode cX4_isLineRight 50 = .ok (.iload 4, 2) := dk_21 4 (dk_at dksX4_isLineRight_2 3 rfl rfl)
theorem dX4_isLineRight_52 : decode cX4_isLineRight 52 = .ok (.ifCond .ne 40, 3) := dk_154 0 40 (dk_at dksX4_isLineRight_2 5 rfl rfl)
theorem dX4_isLineRight_55 : decode cX4_isLineRight 55 = .ok (.aload_n 0, 1) := dk_42 (dk_at dksX4_isLineRight_2 8 rfl rfl)
theorem dX4_isLineRight_56 : decode cX4_isLineRight 56 = .ok (.getfield 7, 3) := dk_180 0 7 (dk_at dksX4_isLineRight_2 9 rfl rfl)
theorem dX4_isLineRight_59 : decode cX4_isLineRight 59 = .ok (.sipush 169, 3) := dk_17 0 169 (dk_at dksX4_isLineRight_2 12 rfl rfl)
theorem dX4_isLineRight_62 : decode cX4_isLineRight 62 = .ok (.iconst 4, 1) := dk_7 (dk_at dksX4_isLineRight_2 15 rfl rfl)
theorem dX4_isLineRight_63 : decode cX4_isLineRight 63 = .ok (.iload_n 1, 1) := dk_27 (dk_at dksX4_isLineRight_2 16 rfl rfl)
theorem dX4_isLineRight_64 : decode cX4_isLineRight 64 = .ok (.imul, 1) := dk_104 (dk_at dksX4_isLineRight_2 17 rfl rfl)
theorem dX4_isLineRight_65 : decode cX4_isLineRight 65 = .ok (.iadd, 1) := dk_96 (dk_at dksX4_isLineRight_2 18 rfl rfl)
theorem dX4_isLineRight_66 : decode cX4_isLineRight 66 = .ok (.iload_n 3, 1) := dk_29 (dk_at dksX4_isLineRight_2 19 rfl rfl)
theorem dX4_isLineRight_67 : decode cX4_isLineRight 67 = .ok (.iadd, 1) := dk_96 (dk_at dksX4_isLineRight_2 20 rfl rfl)
theorem dX4_isLineRight_68 : decode cX4_isLineRight 68 = .ok (.iaload, 1) := dk_46 (dk_at dksX4_isLineRight_2 21 rfl rfl)
theorem dX4_isLineRight_69 : decode cX4_isLineRight 69 = .ok (.aload_n 0, 1) := dk_42 (dk_at dksX4_isLineRight_2 22 rfl rfl)
theorem dX4_isLineRight_70 : decode cX4_isLineRight 70 = .ok (.getfield 7, 3) := dk_180 0 7 (dk_at dksX4_isLineRight_3 0 rfl rfl)
theorem dX4_isLineRight_73 : decode cX4_isLineRight 73 = .ok (.iconst 5, 1) := dk_8 (dk_at dksX4_isLineRight_3 3 rfl rfl)
theorem dX4_isLineRight_74 : decode cX4_isLineRight 74 = .ok (.iconst 4, 1) := dk_7 (dk_at dksX4_isLineRight_3 4 rfl rfl)
theorem dX4_isLineRight_75 : decode cX4_isLineRight 75 = .ok (.aload_n 0, 1) := dk_42 (dk_at dksX4_isLineRight_3 5 rfl rfl)
theorem dX4_isLineRight_76 : decode cX4_isLineRight 76 = .ok (.getfield 7, 3) := dk_180 0 7 (dk_at dksX4_isLineRight_3 6 rfl rfl)
theorem dX4_isLineRight_79 : decode cX4_isLineRight 79 = .ok (.bipush 73, 2) := dk_16 73 (dk_at dksX4_isLineRight_3 9 rfl rfl)
theorem dX4_isLineRight_81 : decode cX4_isLineRight 81 = .ok (.iload_n 1, 1) := dk_27 (dk_at dksX4_isLineRight_3 11 rfl rfl)
theorem dX4_isLineRight_82 : decode cX4_isLineRight 82 = .ok (.iadd, 1) := dk_96 (dk_at dksX4_isLineRight_3 12 rfl rfl)
theorem dX4_isLineRight_83 : decode cX4_isLineRight 83 = .ok (.iaload, 1) := dk_46 (dk_at dksX4_isLineRight_3 13 rfl rfl)
theorem dX4_isLineRight_84 : decode cX4_isLineRight 84 = .ok (.imul, 1) := dk_104 (dk_at dksX4_isLineRight_3 14 rfl rfl)
theorem dX4_isLineRight_85 : decode cX4_isLineRight 85 = .ok (.iadd, 1) := dk_96 (dk_at dksX4_isLineRight_3 15 rfl rfl)
theorem dX4_isLineRight_86 : decode cX4_isLineRight 86 = .ok (.iload_n 3, 1) := dk_29 (dk_at dksX4_isLineRight_3 16 rfl rfl)
theorem dX4_isLineRight_87 : decode cX4_isLineRight 87 = .ok (.iadd, 1) := dk_96 (dk_at dksX4_isLineRight_3 17 rfl rfl)
theorem dX4_isLineRight_88 : decode cX4_isLineRight 88 = .ok (.iaload, 1) := dk_46 (dk_at dksX4_isLineRight_3 18 rfl rfl)
theorem dX4_isLineRight_89 : decode cX4_isLineRight 89 = .ok (.if_icmp .ne 7, 3) := dk_160 0 7 (dk_at dksX4_isLineRight_3 19 rfl rfl)
theorem dX4_isLineRight_92 : decode cX4_isLineRight 92 = .ok (.iconst 1, 1) := dk_4 (dk_at dksX4_isLineRight_3 22 rfl rfl)
theorem dX4_isLineRight_93 : decode cX4_isLineRight 93 = .ok (.goto 4, 3) := dk_167 0 4 (dk_at dksX4_isLineRight_4 0 rfl rfl)
theorem dX4_isLineRight_96 : decode cX4_isLineRight 96 = .ok (.iconst 0, 1) := dk_3 (dk_at dksX4_isLineRight_4 3 rfl rfl)
theorem dX4_isLineRight_97 : decode cX4_isLineRight 97 = .ok (.istore_n 2, 1) := dk_61 (dk_at dksX4_isLineRight_4 4 rfl rfl)
theorem dX4_isLineRight_98 : decode cX4_isLineRight 98 = .ok (.iinc 3 1, 3) := dk_132 3 1 (dk_at dksX4_isLineRight_4 5 rfl rfl)
theorem dX4_isLineRight_101 : decode cX4_isLineRight 101 = .ok (.goto (-97), 3) := dk_167 255 159 (dk_at dksX4_isLineRight_4 8 rfl rfl)
theorem dX4_isLineRight_104 : decode cX4_isLineRight 104 = .ok (.iload_n 2, 1) := dk_28 (dk_at dksX4_isLineRight_4 11 rfl rfl)
theorem dX4_isLineRight_105 : decode cX4_isLineRight 105 = .ok (.ireturn, 1) := dk_172 (dk_at dksX4_isLineRight_4 12 rfl rfl)
abbrev cX4_undo : ByteArray := prog_15_method_86_code
def yX4_undo : MethodName := ⟨RX4, "undo", "()I"⟩
def dkwX4_undo_2 : List UInt8 := [182, 0, 119, 172]
abbrev dktX4_undo_2 : List UInt8 := dkwX4_undo_2 ++ []
def dkwX4_undo_1 : List UInt8 := [180, 0, 16, 42, 180, 0, 65, 17, 1, 101, 104, 42, 180, 0, 7, 3, 184, 0, 61, 42, 42, 180, 0, 65]
abbrev dktX4_undo_1 : List UInt8 := dkwX4_undo_1 ++ dktX4_undo_2
def dkwX4_undo_0 : List UInt8 := [42, 180, 0, 65, 154, 0, 9, 42, 4, 182, 0, 57, 172, 42, 89, 180, 0, 65, 4, 100, 181, 0, 65, 42]
abbrev dktX4_undo_0 : List UInt8 := dkwX4_undo_0 ++ dktX4_undo_1
theorem dksX4_undo_0 : cX4_undo.data.toList.drop 0 = dktX4_undo_0 := by decide +kernel
theorem dksX4_undo_1 : cX4_undo.data.toList.drop 24 = dktX4_undo_1 := dk_seg dksX4_undo_0 24 rfl rfl
theorem dksX4_undo_2 : cX4_undo.data.toList.drop 48 = dktX4_undo_2 := dk_seg dksX4_undo_1 24 rfl rfl
theorem dX4_undo_0 : decode cX4_undo 0 = .ok (.aload_n 0, 1) := dk_42 (dk_at dksX4_undo_0 0 rfl rfl)
theorem dX4_undo_1 : decode cX4_undo 1 = .ok (.getfield 65, 3) := dk_180 0 65 (dk_at dksX4_undo_0 1 rfl rfl)
theorem dX4_undo_4 : decode cX4_undo 4 = .ok (.ifCond .ne 9, 3) := dk_154 0 9 (dk_at dksX4_undo_0 4 rfl rfl)
theorem dX4_undo_7 : decode cX4_undo 7 = .ok (.aload_n 0, 1) := dk_42 (dk_at dksX4_undo_0 7 rfl rfl)
theorem dX4_undo_8 : decode cX4_undo 8 = .ok (.iconst 1, 1) := dk_4 (dk_at dksX4_undo_0 8 rfl rfl)
theorem dX4_undo_9 : decode cX4_undo 9 = .ok (.invokevirtual 57, 3) := dk_182 0 57 (dk_at dksX4_undo_0 9 rfl rfl)
theorem dX4_undo_12 : decode cX4_undo 12 = .ok (.ireturn, 1) := dk_172 (dk_at dksX4_undo_0 12 rfl rfl)
theorem dX4_undo_13 : decode cX4_undo 13 = .ok (.aload_n 0, 1) := dk_42 (dk_at dksX4_undo_0 13 rfl rfl)
theorem dX4_undo_14 : decode cX4_undo 14 = .ok (.dup, 1) := dk_89 (dk_at dksX4_undo_0 14 rfl rfl)
theorem dX4_undo_15 : decode cX4_undo 15 = .ok (.getfield 65, 3) := dk_180 0 65 (dk_at dksX4_undo_0 15 rfl rfl)
theorem dX4_undo_18 : decode cX4_undo 18 = .ok (.iconst 1, 1) := dk_4 (dk_at dksX4_undo_0 18 rfl rfl)
theorem dX4_undo_19 : decode cX4_undo 19 = .ok (.isub, 1) := dk_100 (dk_at dksX4_undo_0 19 rfl rfl)
theorem dX4_undo_20 : decode cX4_undo 20 = .ok (.putfield 65, 3) := dk_181 0 65 (dk_at dksX4_undo_0 20 rfl rfl)
theorem dX4_undo_23 : decode cX4_undo 23 = .ok (.aload_n 0, 1) := dk_42 (dk_at dksX4_undo_0 23 rfl rfl)
theorem dX4_undo_24 : decode cX4_undo 24 = .ok (.getfield 16, 3) := dk_180 0 16 (dk_at dksX4_undo_1 0 rfl rfl)
theorem dX4_undo_27 : decode cX4_undo 27 = .ok (.aload_n 0, 1) := dk_42 (dk_at dksX4_undo_1 3 rfl rfl)
theorem dX4_undo_28 : decode cX4_undo 28 = .ok (.getfield 65, 3) := dk_180 0 65 (dk_at dksX4_undo_1 4 rfl rfl)
theorem dX4_undo_31 : decode cX4_undo 31 = .ok (.sipush 357, 3) := dk_17 1 101 (dk_at dksX4_undo_1 7 rfl rfl)
theorem dX4_undo_34 : decode cX4_undo 34 = .ok (.imul, 1) := dk_104 (dk_at dksX4_undo_1 10 rfl rfl)
theorem dX4_undo_35 : decode cX4_undo 35 = .ok (.aload_n 0, 1) := dk_42 (dk_at dksX4_undo_1 11 rfl rfl)
theorem dX4_undo_36 : decode cX4_undo 36 = .ok (.getfield 7, 3) := dk_180 0 7 (dk_at dksX4_undo_1 12 rfl rfl)
theorem dX4_undo_39 : decode cX4_undo 39 = .ok (.iconst 0, 1) := dk_3 (dk_at dksX4_undo_1 15 rfl rfl)
theorem dX4_undo_40 : decode cX4_undo 40 = .ok (.invokestatic 61, 3) := dk_184 0 61 (dk_at dksX4_undo_1 16 rfl rfl)
theorem dX4_undo_43 : decode cX4_undo 43 = .ok (.aload_n 0, 1) := dk_42 (dk_at dksX4_undo_1 19 rfl rfl)
theorem dX4_undo_44 : decode cX4_undo 44 = .ok (.aload_n 0, 1) := dk_42 (dk_at dksX4_undo_1 20 rfl rfl)
theorem dX4_undo_45 : decode cX4_undo 45 = .ok (.getfield 65, 3) := dk_180 0 65 (dk_at dksX4_undo_1 21 rfl rfl)
theorem dX4_undo_48 : decode cX4_undo 48 = .ok (.invokevirtual 119, 3) := dk_182 0 119 (dk_at dksX4_undo_2 0 rfl rfl)
theorem dX4_undo_51 : decode cX4_undo 51 = .ok (.ireturn, 1) := dk_172 (dk_at dksX4_undo_2 3 rfl rfl)
abbrev cX4_save : ByteArray := prog_15_method_87_code
def yX4_save : MethodName := ⟨RX4, "save", "()I"⟩
def dkwX4_save_1 : List UInt8 := [46, 182, 0, 119, 172]
abbrev dktX4_save_1 : List UInt8 := dkwX4_save_1 ++ []
def dkwX4_save_0 : List UInt8 := [42, 180, 0, 7, 3, 42, 180, 0, 19, 3, 184, 0, 61, 42, 4, 181, 1, 0, 42, 42, 180, 0, 7, 3]
abbrev dktX4_save_0 : List UInt8 := dkwX4_save_0 ++ dktX4_save_1
theorem dksX4_save_0 : cX4_save.data.toList.drop 0 = dktX4_save_0 := by decide +kernel
theorem dksX4_save_1 : cX4_save.data.toList.drop 24 = dktX4_save_1 := dk_seg dksX4_save_0 24 rfl rfl
theorem dX4_save_0 : decode cX4_save 0 = .ok (.aload_n 0, 1) := dk_42 (dk_at dksX4_save_0 0 rfl rfl)
theorem dX4_save_1 : decode cX4_save 1 = .ok (.getfield 7, 3) := dk_180 0 7 (dk_at dksX4_save_0 1 rfl rfl)
theorem dX4_save_4 : decode cX4_save 4 = .ok (.iconst 0, 1) := dk_3 (dk_at dksX4_save_0 4 rfl rfl)
theorem dX4_save_5 : decode cX4_save 5 = .ok (.aload_n 0, 1) := dk_42 (dk_at dksX4_save_0 5 rfl rfl)
theorem dX4_save_6 : decode cX4_save 6 = .ok (.getfield 19, 3) := dk_180 0 19 (dk_at dksX4_save_0 6 rfl rfl)
theorem dX4_save_9 : decode cX4_save 9 = .ok (.iconst 0, 1) := dk_3 (dk_at dksX4_save_0 9 rfl rfl)
theorem dX4_save_10 : decode cX4_save 10 = .ok (.invokestatic 61, 3) := dk_184 0 61 (dk_at dksX4_save_0 10 rfl rfl)
theorem dX4_save_13 : decode cX4_save 13 = .ok (.aload_n 0, 1) := dk_42 (dk_at dksX4_save_0 13 rfl rfl)
theorem dX4_save_14 : decode cX4_save 14 = .ok (.iconst 1, 1) := dk_4 (dk_at dksX4_save_0 14 rfl rfl)
theorem dX4_save_15 : decode cX4_save 15 = .ok (.putfield 256, 3) := dk_181 1 0 (dk_at dksX4_save_0 15 rfl rfl)
theorem dX4_save_18 : decode cX4_save 18 = .ok (.aload_n 0, 1) := dk_42 (dk_at dksX4_save_0 18 rfl rfl)
theorem dX4_save_19 : decode cX4_save 19 = .ok (.aload_n 0, 1) := dk_42 (dk_at dksX4_save_0 19 rfl rfl)
theorem dX4_save_20 : decode cX4_save 20 = .ok (.getfield 7, 3) := dk_180 0 7 (dk_at dksX4_save_0 20 rfl rfl)
theorem dX4_save_23 : decode cX4_save 23 = .ok (.iconst 0, 1) := dk_3 (dk_at dksX4_save_0 23 rfl rfl)
theorem dX4_save_24 : decode cX4_save 24 = .ok (.iaload, 1) := dk_46 (dk_at dksX4_save_1 0 rfl rfl)
theorem dX4_save_25 : decode cX4_save 25 = .ok (.invokevirtual 119, 3) := dk_182 0 119 (dk_at dksX4_save_1 1 rfl rfl)
theorem dX4_save_28 : decode cX4_save 28 = .ok (.ireturn, 1) := dk_172 (dk_at dksX4_save_1 4 rfl rfl)
abbrev cX4_restore : ByteArray := prog_15_method_88_code
def yX4_restore : MethodName := ⟨RX4, "restore", "()I"⟩
def dkwX4_restore_1 : List UInt8 := [184, 0, 61, 42, 3, 181, 0, 65, 42, 42, 180, 0, 7, 3, 46, 182, 0, 119, 172]
abbrev dktX4_restore_1 : List UInt8 := dkwX4_restore_1 ++ []
def dkwX4_restore_0 : List UInt8 := [42, 180, 1, 0, 154, 0, 9, 42, 4, 182, 0, 57, 172, 42, 180, 0, 19, 3, 42, 180, 0, 7, 3]
abbrev dktX4_restore_0 : List UInt8 := dkwX4_restore_0 ++ dktX4_restore_1
theorem dksX4_restore_0 : cX4_restore.data.toList.drop 0 = dktX4_restore_0 := by decide +kernel
theorem dksX4_restore_1 : cX4_restore.data.toList.drop 23 = dktX4_restore_1 := dk_seg dksX4_restore_0 23 rfl rfl
theorem dX4_restore_0 : decode cX4_restore 0 = .ok (.aload_n 0, 1) := dk_42 (dk_at dksX4_restore_0 0 rfl rfl)
theorem dX4_restore_1 : decode cX4_restore 1 = .ok (.getfield 256, 3) := dk_180 1 0 (dk_at dksX4_restore_0 1 rfl rfl)
theorem dX4_restore_4 : decode cX4_restore 4 = .ok (.ifCond .ne 9, 3) := dk_154 0 9 (dk_at dksX4_restore_0 4 rfl rfl)
theorem dX4_restore_7 : decode cX4_restore 7 = .ok (.aload_n 0, 1) := dk_42 (dk_at dksX4_restore_0 7 rfl rfl)
theorem dX4_restore_8 : decode cX4_restore 8 = .ok (.iconst 1, 1) := dk_4 (dk_at dksX4_restore_0 8 rfl rfl)
theorem dX4_restore_9 : decode cX4_restore 9 = .ok (.invokevirtual 57, 3) := dk_182 0 57 (dk_at dksX4_restore_0 9 rfl rfl)
theorem dX4_restore_12 : decode cX4_restore 12 = .ok (.ireturn, 1) := dk_172 (dk_at dksX4_restore_0 12 rfl rfl)
theorem dX4_restore_13 : decode cX4_restore 13 = .ok (.aload_n 0, 1) := dk_42 (dk_at dksX4_restore_0 13 rfl rfl)
theorem dX4_restore_14 : decode cX4_restore 14 = .ok (.getfield 19, 3) := dk_180 0 19 (dk_at dksX4_restore_0 14 rfl rfl)
theorem dX4_restore_17 : decode cX4_restore 17 = .ok (.iconst 0, 1) := dk_3 (dk_at dksX4_restore_0 17 rfl rfl)
theorem dX4_restore_18 : decode cX4_restore 18 = .ok (.aload_n 0, 1) := dk_42 (dk_at dksX4_restore_0 18 rfl rfl)
theorem dX4_restore_19 : decode cX4_restore 19 = .ok (.getfield 7, 3) := dk_180 0 7 (dk_at dksX4_restore_0 19 rfl rfl)
theorem dX4_restore_22 : decode cX4_restore 22 = .ok (.iconst 0, 1) := dk_3 (dk_at dksX4_restore_0 22 rfl rfl)
theorem dX4_restore_23 : decode cX4_restore 23 = .ok (.invokestatic 61, 3) := dk_184 0 61 (dk_at dksX4_restore_1 0 rfl rfl)
theorem dX4_restore_26 : decode cX4_restore 26 = .ok (.aload_n 0, 1) := dk_42 (dk_at dksX4_restore_1 3 rfl rfl)
theorem dX4_restore_27 : decode cX4_restore 27 = .ok (.iconst 0, 1) := dk_3 (dk_at dksX4_restore_1 4 rfl rfl)
theorem dX4_restore_28 : decode cX4_restore 28 = .ok (.putfield 65, 3) := dk_181 0 65 (dk_at dksX4_restore_1 5 rfl rfl)
theorem dX4_restore_31 : decode cX4_restore 31 = .ok (.aload_n 0, 1) := dk_42 (dk_at dksX4_restore_1 8 rfl rfl)
theorem dX4_restore_32 : decode cX4_restore 32 = .ok (.aload_n 0, 1) := dk_42 (dk_at dksX4_restore_1 9 rfl rfl)
theorem dX4_restore_33 : decode cX4_restore 33 = .ok (.getfield 7, 3) := dk_180 0 7 (dk_at dksX4_restore_1 10 rfl rfl)
theorem dX4_restore_36 : decode cX4_restore 36 = .ok (.iconst 0, 1) := dk_3 (dk_at dksX4_restore_1 13 rfl rfl)
theorem dX4_restore_37 : decode cX4_restore 37 = .ok (.iaload, 1) := dk_46 (dk_at dksX4_restore_1 14 rfl rfl)
theorem dX4_restore_38 : decode cX4_restore 38 = .ok (.invokevirtual 119, 3) := dk_182 0 119 (dk_at dksX4_restore_1 15 rfl rfl)
theorem dX4_restore_41 : decode cX4_restore 41 = .ok (.ireturn, 1) := dk_172 (dk_at dksX4_restore_1 18 rfl rfl)
