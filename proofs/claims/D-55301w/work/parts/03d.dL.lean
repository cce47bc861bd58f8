set_option maxRecDepth 100000
abbrev cX0_read : ByteArray := method_3_code
def yX0_read : MethodName := ⟨RX0, "read", "(LWordCache;I[J)I"⟩
def dkwX0_read_0 : List UInt8 := [44, 3, 42, 27, 182, 0, 7, 133, 80, 167, 0, 6, 78, 4, 172, 3, 172]
abbrev dktX0_read_0 : List UInt8 := dkwX0_read_0 ++ []
theorem dksX0_read_0 : cX0_read.data.toList.drop 0 = dktX0_read_0 := by decide +kernel
theorem dX0_read_0 : decode cX0_read 0 = .ok (.aload_n 2, 1) := dk_44 (dk_at dksX0_read_0 0 rfl rfl)
theorem dX0_read_1 : decode cX0_read 1 = .ok (.iconst 0, 1) := dk_3 (dk_at dksX0_read_0 1 rfl rfl)
theorem dX0_read_2 : decode cX0_read 2 = .ok (.aload_n 0, 1) := dk_42 (dk_at dksX0_read_0 2 rfl rfl)
theorem dX0_read_3 : decode cX0_read 3 = .ok (.iload_n 1, 1) := dk_27 (dk_at dksX0_read_0 3 rfl rfl)
theorem dX0_read_4 : decode cX0_read 4 = .ok (.invokevirtual 7, 3) := dk_182 0 7 (dk_at dksX0_read_0 4 rfl rfl)
theorem dX0_read_7 : decode cX0_read 7 = .ok (.i2l, 1) := dk_133 (dk_at dksX0_read_0 7 rfl rfl)
theorem dX0_read_8 : decode cX0_read 8 = .ok (.lastore, 1) := dk_80 (dk_at dksX0_read_0 8 rfl rfl)
theorem dX0_read_9 : decode cX0_read 9 = .ok (.goto 6, 3) := dk_167 0 6 (dk_at dksX0_read_0 9 rfl rfl)
theorem dX0_read_12 : decode cX0_read 12 = .ok (.astore_n 3, 1) := dk_78 (dk_at dksX0_read_0 12 rfl rfl)
theorem dX0_read_13 : decode cX0_read 13 = .ok (.iconst 1, 1) := dk_4 (dk_at dksX0_read_0 13 rfl rfl)
theorem dX0_read_14 : decode cX0_read 14 = .ok (.ireturn, 1) := dk_172 (dk_at dksX0_read_0 14 rfl rfl)
theorem dX0_read_15 : decode cX0_read 15 = .ok (.iconst 0, 1) := dk_3 (dk_at dksX0_read_0 15 rfl rfl)
theorem dX0_read_16 : decode cX0_read 16 = .ok (.ireturn, 1) := dk_172 (dk_at dksX0_read_0 16 rfl rfl)
abbrev cX0_write : ByteArray := method_4_code
def yX0_write : MethodName := ⟨RX0, "write", "(LWordCache;II[J)I"⟩
def dkwX0_write_0 : List UInt8 := [45, 3, 42, 27, 28, 182, 0, 15, 133, 80, 167, 0, 7, 58, 4, 4, 172, 3, 172]
abbrev dktX0_write_0 : List UInt8 := dkwX0_write_0 ++ []
theorem dksX0_write_0 : cX0_write.data.toList.drop 0 = dktX0_write_0 := by decide +kernel
theorem dX0_write_0 : decode cX0_write 0 = .ok (.aload_n 3, 1) := dk_45 (dk_at dksX0_write_0 0 rfl rfl)
theorem dX0_write_1 : decode cX0_write 1 = .ok (.iconst 0, 1) := dk_3 (dk_at dksX0_write_0 1 rfl rfl)
theorem dX0_write_2 : decode cX0_write 2 = .ok (.aload_n 0, 1) := dk_42 (dk_at dksX0_write_0 2 rfl rfl)
theorem dX0_write_3 : decode cX0_write 3 = .ok (.iload_n 1, 1) := dk_27 (dk_at dksX0_write_0 3 rfl rfl)
theorem dX0_write_4 : decode cX0_write 4 = .ok (.iload_n 2, 1) := dk_28 (dk_at dksX0_write_0 4 rfl rfl)
theorem dX0_write_5 : decode cX0_write 5 = .ok (.invokevirtual 15, 3) := dk_182 0 15 (dk_at dksX0_write_0 5 rfl rfl)
theorem dX0_write_8 : decode cX0_write 8 = .ok (.i2l, 1) := dk_133 (dk_at dksX0_write_0 8 rfl rfl)
theorem dX0_write_9 : decode cX0_write 9 = .ok (.lastore, 1) := dk_80 (dk_at dksX0_write_0 9 rfl rfl)
theorem dX0_write_10 : decode cX0_write 10 = .ok (.goto 7, 3) := dk_167 0 7 (dk_at dksX0_write_0 10 rfl rfl)
theorem dX0_write_13 : decode cX0_write 13 = .ok (.astore 4, 2) := dk_58 4 (dk_at dksX0_write_0 13 rfl rfl)
theorem dX0_write_15 : decode cX0_write 15 = .ok (.iconst 1, 1) := dk_4 (dk_at dksX0_write_0 15 rfl rfl)
theorem dX0_write_16 : decode cX0_write 16 = .ok (.ireturn, 1) := dk_172 (dk_at dksX0_write_0 16 rfl rfl)
theorem dX0_write_17 : decode cX0_write 17 = .ok (.iconst 0, 1) := dk_3 (dk_at dksX0_write_0 17 rfl rfl)
theorem dX0_write_18 : decode cX0_write 18 = .ok (.ireturn, 1) := dk_172 (dk_at dksX0_write_0 18 rfl rfl)
abbrev cX0_device : ByteArray := method_5_code
def yX0_device : MethodName := ⟨RX0, "device", "(LWordCache;II[J)I"⟩
def dkwX0_device_0 : List UInt8 := [45, 3, 42, 27, 28, 182, 0, 19, 133, 80, 167, 0, 7, 58, 4, 4, 172, 3, 172]
abbrev dktX0_device_0 : List UInt8 := dkwX0_device_0 ++ []
theorem dksX0_device_0 : cX0_device.data.toList.drop 0 = dktX0_device_0 := by decide +kernel
theorem dX0_device_0 : decode cX0_device 0 = .ok (.aload_n 3, 1) := dk_45 (dk_at dksX0_device_0 0 rfl rfl)
theorem dX0_device_1 : decode cX0_device 1 = .ok (.iconst 0, 1) := dk_3 (dk_at dksX0_device_0 1 rfl rfl)
theorem dX0_device_2 : decode cX0_device 2 = .ok (.aload_n 0, 1) := dk_42 (dk_at dksX0_device_0 2 rfl rfl)
theorem dX0_device_3 : decode cX0_device 3 = .ok (.iload_n 1, 1) := dk_27 (dk_at dksX0_device_0 3 rfl rfl)
theorem dX0_device_4 : decode cX0_device 4 = .ok (.iload_n 2, 1) := dk_28 (dk_at dksX0_device_0 4 rfl rfl)
theorem dX0_device_5 : decode cX0_device 5 = .ok (.invokevirtual 19, 3) := dk_182 0 19 (dk_at dksX0_device_0 5 rfl rfl)
theorem dX0_device_8 : decode cX0_device 8 = .ok (.i2l, 1) := dk_133 (dk_at dksX0_device_0 8 rfl rfl)
theorem dX0_device_9 : decode cX0_device 9 = .ok (.lastore, 1) := dk_80 (dk_at dksX0_device_0 9 rfl rfl)
theorem dX0_device_10 : decode cX0_device 10 = .ok (.goto 7, 3) := dk_167 0 7 (dk_at dksX0_device_0 10 rfl rfl)
theorem dX0_device_13 : decode cX0_device 13 = .ok (.astore 4, 2) := dk_58 4 (dk_at dksX0_device_0 13 rfl rfl)
theorem dX0_device_15 : decode cX0_device 15 = .ok (.iconst 1, 1) := dk_4 (dk_at dksX0_device_0 15 rfl rfl)
theorem dX0_device_16 : decode cX0_device 16 = .ok (.ireturn, 1) := dk_172 (dk_at dksX0_device_0 16 rfl rfl)
theorem dX0_device_17 : decode cX0_device 17 = .ok (.iconst 0, 1) := dk_3 (dk_at dksX0_device_0 17 rfl rfl)
theorem dX0_device_18 : decode cX0_device 18 = .ok (.ireturn, 1) := dk_172 (dk_at dksX0_device_0 18 rfl rfl)
abbrev cX0_pass : ByteArray := method_6_code
def yX0_pass : MethodName := ⟨RX0, "pass", "(LWordCache;I[J)I"⟩
def dkwX0_pass_0 : List UInt8 := [44, 3, 42, 27, 182, 0, 22, 133, 80, 167, 0, 6, 78, 4, 172, 3, 172]
abbrev dktX0_pass_0 : List UInt8 := dkwX0_pass_0 ++ []
theorem dksX0_pass_0 : cX0_pass.data.toList.drop 0 = dktX0_pass_0 := by decide +kernel
theorem dX0_pass_0 : decode cX0_pass 0 = .ok (.aload_n 2, 1) := dk_44 (dk_at dksX0_pass_0 0 rfl rfl)
theorem dX0_pass_1 : decode cX0_pass 1 = .ok (.iconst 0, 1) := dk_3 (dk_at dksX0_pass_0 1 rfl rfl)
theorem dX0_pass_2 : decode cX0_pass 2 = .ok (.aload_n 0, 1) := dk_42 (dk_at dksX0_pass_0 2 rfl rfl)
theorem dX0_pass_3 : decode cX0_pass 3 = .ok (.iload_n 1, 1) := dk_27 (dk_at dksX0_pass_0 3 rfl rfl)
theorem dX0_pass_4 : decode cX0_pass 4 = .ok (.invokevirtual 22, 3) := dk_182 0 22 (dk_at dksX0_pass_0 4 rfl rfl)
theorem dX0_pass_7 : decode cX0_pass 7 = .ok (.i2l, 1) := dk_133 (dk_at dksX0_pass_0 7 rfl rfl)
theorem dX0_pass_8 : decode cX0_pass 8 = .ok (.lastore, 1) := dk_80 (dk_at dksX0_pass_0 8 rfl rfl)
theorem dX0_pass_9 : decode cX0_pass 9 = .ok (.goto 6, 3) := dk_167 0 6 (dk_at dksX0_pass_0 9 rfl rfl)
theorem dX0_pass_12 : decode cX0_pass 12 = .ok (.astore_n 3, 1) := dk_78 (dk_at dksX0_pass_0 12 rfl rfl)
theorem dX0_pass_13 : decode cX0_pass 13 = .ok (.iconst 1, 1) := dk_4 (dk_at dksX0_pass_0 13 rfl rfl)
theorem dX0_pass_14 : decode cX0_pass 14 = .ok (.ireturn, 1) := dk_172 (dk_at dksX0_pass_0 14 rfl rfl)
theorem dX0_pass_15 : decode cX0_pass 15 = .ok (.iconst 0, 1) := dk_3 (dk_at dksX0_pass_0 15 rfl rfl)
theorem dX0_pass_16 : decode cX0_pass 16 = .ok (.ireturn, 1) := dk_172 (dk_at dksX0_pass_0 16 rfl rfl)
abbrev cX0_pin : ByteArray := method_7_code
def yX0_pin : MethodName := ⟨RX0, "pin", "(LWordCache;I[J)I"⟩
def dkwX0_pin_0 : List UInt8 := [44, 3, 42, 27, 182, 0, 25, 133, 80, 167, 0, 6, 78, 4, 172, 3, 172]
abbrev dktX0_pin_0 : List UInt8 := dkwX0_pin_0 ++ []
theorem dksX0_pin_0 : cX0_pin.data.toList.drop 0 = dktX0_pin_0 := by decide +kernel
theorem dX0_pin_0 : decode cX0_pin 0 = .ok (.aload_n 2, 1) := dk_44 (dk_at dksX0_pin_0 0 rfl rfl)
theorem dX0_pin_1 : decode cX0_pin 1 = .ok (.iconst 0, 1) := dk_3 (dk_at dksX0_pin_0 1 rfl rfl)
theorem dX0_pin_2 : decode cX0_pin 2 = .ok (.aload_n 0, 1) := dk_42 (dk_at dksX0_pin_0 2 rfl rfl)
theorem dX0_pin_3 : decode cX0_pin 3 = .ok (.iload_n 1, 1) := dk_27 (dk_at dksX0_pin_0 3 rfl rfl)
theorem dX0_pin_4 : decode cX0_pin 4 = .ok (.invokevirtual 25, 3) := dk_182 0 25 (dk_at dksX0_pin_0 4 rfl rfl)
theorem dX0_pin_7 : decode cX0_pin 7 = .ok (.i2l, 1) := dk_133 (dk_at dksX0_pin_0 7 rfl rfl)
theorem dX0_pin_8 : decode cX0_pin 8 = .ok (.lastore, 1) := dk_80 (dk_at dksX0_pin_0 8 rfl rfl)
theorem dX0_pin_9 : decode cX0_pin 9 = .ok (.goto 6, 3) := dk_167 0 6 (dk_at dksX0_pin_0 9 rfl rfl)
theorem dX0_pin_12 : decode cX0_pin 12 = .ok (.astore_n 3, 1) := dk_78 (dk_at dksX0_pin_0 12 rfl rfl)
theorem dX0_pin_13 : decode cX0_pin 13 = .ok (.iconst 1, 1) := dk_4 (dk_at dksX0_pin_0 13 rfl rfl)
theorem dX0_pin_14 : decode cX0_pin 14 = .ok (.ireturn, 1) := dk_172 (dk_at dksX0_pin_0 14 rfl rfl)
theorem dX0_pin_15 : decode cX0_pin 15 = .ok (.iconst 0, 1) := dk_3 (dk_at dksX0_pin_0 15 rfl rfl)
theorem dX0_pin_16 : decode cX0_pin 16 = .ok (.ireturn, 1) := dk_172 (dk_at dksX0_pin_0 16 rfl rfl)
abbrev cX0_free : ByteArray := method_8_code
def yX0_free : MethodName := ⟨RX0, "free", "(LWordCache;I[J)I"⟩
def dkwX0_free_0 : List UInt8 := [44, 3, 42, 27, 182, 0, 28, 133, 80, 167, 0, 6, 78, 4, 172, 3, 172]
abbrev dktX0_free_0 : List UInt8 := dkwX0_free_0 ++ []
theorem dksX0_free_0 : cX0_free.data.toList.drop 0 = dktX0_free_0 := by decide +kernel
theorem dX0_free_0 : decode cX0_free 0 = .ok (.aload_n 2, 1) := dk_44 (dk_at dksX0_free_0 0 rfl rfl)
theorem dX0_free_1 : decode cX0_free 1 = .ok (.iconst 0, 1) := dk_3 (dk_at dksX0_free_0 1 rfl rfl)
theorem dX0_free_2 : decode cX0_free 2 = .ok (.aload_n 0, 1) := dk_42 (dk_at dksX0_free_0 2 rfl rfl)
theorem dX0_free_3 : decode cX0_free 3 = .ok (.iload_n 1, 1) := dk_27 (dk_at dksX0_free_0 3 rfl rfl)
theorem dX0_free_4 : decode cX0_free 4 = .ok (.invokevirtual 28, 3) := dk_182 0 28 (dk_at dksX0_free_0 4 rfl rfl)
theorem dX0_free_7 : decode cX0_free 7 = .ok (.i2l, 1) := dk_133 (dk_at dksX0_free_0 7 rfl rfl)
theorem dX0_free_8 : decode cX0_free 8 = .ok (.lastore, 1) := dk_80 (dk_at dksX0_free_0 8 rfl rfl)
theorem dX0_free_9 : decode cX0_free 9 = .ok (.goto 6, 3) := dk_167 0 6 (dk_at dksX0_free_0 9 rfl rfl)
theorem dX0_free_12 : decode cX0_free 12 = .ok (.astore_n 3, 1) := dk_78 (dk_at dksX0_free_0 12 rfl rfl)
theorem dX0_free_13 : decode cX0_free 13 = .ok (.iconst 1, 1) := dk_4 (dk_at dksX0_free_0 13 rfl rfl)
theorem dX0_free_14 : decode cX0_free 14 = .ok (.ireturn, 1) := dk_172 (dk_at dksX0_free_0 14 rfl rfl)
theorem dX0_free_15 : decode cX0_free 15 = .ok (.iconst 0, 1) := dk_3 (dk_at dksX0_free_0 15 rfl rfl)
theorem dX0_free_16 : decode cX0_free 16 = .ok (.ireturn, 1) := dk_172 (dk_at dksX0_free_0 16 rfl rfl)
abbrev cX0_flush : ByteArray := method_9_code
def yX0_flush : MethodName := ⟨RX0, "flush", "(LWordCache;[J)I"⟩
def dkwX0_flush_0 : List UInt8 := [43, 3, 42, 182, 0, 31, 133, 80, 167, 0, 6, 77, 4, 172, 3, 172]
abbrev dktX0_flush_0 : List UInt8 := dkwX0_flush_0 ++ []
theorem dksX0_flush_0 : cX0_flush.data.toList.drop 0 = dktX0_flush_0 := by decide +kernel
theorem dX0_flush_0 : decode cX0_flush 0 = .ok (.aload_n 1, 1) := dk_43 (dk_at dksX0_flush_0 0 rfl rfl)
theorem dX0_flush_1 : decode cX0_flush 1 = .ok (.iconst 0, 1) := dk_3 (dk_at dksX0_flush_0 1 rfl rfl)
theorem dX0_flush_2 : decode cX0_flush 2 = .ok (.aload_n 0, 1) := dk_42 (dk_at dksX0_flush_0 2 rfl rfl)
theorem dX0_flush_3 : decode cX0_flush 3 = .ok (.invokevirtual 31, 3) := dk_182 0 31 (dk_at dksX0_flush_0 3 rfl rfl)
theorem dX0_flush_6 : decode cX0_flush 6 = .ok (.i2l, 1) := dk_133 (dk_at dksX0_flush_0 6 rfl rfl)
theorem dX0_flush_7 : decode cX0_flush 7 = .ok (.lastore, 1) := dk_80 (dk_at dksX0_flush_0 7 rfl rfl)
theorem dX0_flush_8 : decode cX0_flush 8 = .ok (.goto 6, 3) := dk_167 0 6 (dk_at dksX0_flush_0 8 rfl rfl)
theorem dX0_flush_11 : decode cX0_flush 11 = .ok (.astore_n 2, 1) := dk_77 (dk_at dksX0_flush_0 11 rfl rfl)
theorem dX0_flush_12 : decode cX0_flush 12 = .ok (.iconst 1, 1) := dk_4 (dk_at dksX0_flush_0 12 rfl rfl)
theorem dX0_flush_13 : decode cX0_flush 13 = .ok (.ireturn, 1) := dk_172 (dk_at dksX0_flush_0 13 rfl rfl)
theorem dX0_flush_14 : decode cX0_flush 14 = .ok (.iconst 0, 1) := dk_3 (dk_at dksX0_flush_0 14 rfl rfl)
theorem dX0_flush_15 : decode cX0_flush 15 = .ok (.ireturn, 1) := dk_172 (dk_at dksX0_flush_0 15 rfl rfl)
abbrev cX0_shape : ByteArray := method_10_code
def yX0_shape : MethodName := ⟨RX0, "shape", "(LWordCache;II[J)I"⟩
def dkwX0_shape_0 : List UInt8 := [45, 3, 42, 27, 28, 182, 0, 35, 133, 80, 167, 0, 7, 58, 4, 4, 172, 3, 172]
abbrev dktX0_shape_0 : List UInt8 := dkwX0_shape_0 ++ []
theorem dksX0_shape_0 : cX0_shape.data.toList.drop 0 = dktX0_shape_0 := by decide +kernel
theorem dX0_shape_0 : decode cX0_shape 0 = .ok (.aload_n 3, 1) := dk_45 (dk_at dksX0_shape_0 0 rfl rfl)
theorem dX0_shape_1 : decode cX0_shape 1 = .ok (.iconst 0, 1) := dk_3 (dk_at dksX0_shape_0 1 rfl rfl)
theorem dX0_shape_2 : decode cX0_shape 2 = .ok (.aload_n 0, 1) := dk_42 (dk_at dksX0_shape_0 2 rfl rfl)
theorem dX0_shape_3 : decode cX0_shape 3 = .ok (.iload_n 1, 1) := dk_27 (dk_at dksX0_shape_0 3 rfl rfl)
theorem dX0_shape_4 : decode cX0_shape 4 = .ok (.iload_n 2, 1) := dk_28 (dk_at dksX0_shape_0 4 rfl rfl)
theorem dX0_shape_5 : decode cX0_shape 5 = .ok (.invokevirtual 35, 3) := dk_182 0 35 (dk_at dksX0_shape_0 5 rfl rfl)
theorem dX0_shape_8 : decode cX0_shape 8 = .ok (.i2l, 1) := dk_133 (dk_at dksX0_shape_0 8 rfl rfl)
theorem dX0_shape_9 : decode cX0_shape 9 = .ok (.lastore, 1) := dk_80 (dk_at dksX0_shape_0 9 rfl rfl)
theorem dX0_shape_10 : decode cX0_shape 10 = .ok (.goto 7, 3) := dk_167 0 7 (dk_at dksX0_shape_0 10 rfl rfl)
theorem dX0_shape_13 : decode cX0_shape 13 = .ok (.astore 4, 2) := dk_58 4 (dk_at dksX0_shape_0 13 rfl rfl)
theorem dX0_shape_15 : decode cX0_shape 15 = .ok (.iconst 1, 1) := dk_4 (dk_at dksX0_shape_0 15 rfl rfl)
theorem dX0_shape_16 : decode cX0_shape 16 = .ok (.ireturn, 1) := dk_172 (dk_at dksX0_shape_0 16 rfl rfl)
theorem dX0_shape_17 : decode cX0_shape 17 = .ok (.iconst 0, 1) := dk_3 (dk_at dksX0_shape_0 17 rfl rfl)
theorem dX0_shape_18 : decode cX0_shape 18 = .ok (.ireturn, 1) := dk_172 (dk_at dksX0_shape_0 18 rfl rfl)
abbrev cX0_rule : ByteArray := method_11_code
def yX0_rule : MethodName := ⟨RX0, "rule", "(LWordCache;I[J)I"⟩
def dkwX0_rule_0 : List UInt8 := [44, 3, 42, 27, 182, 0, 38, 133, 80, 167, 0, 6, 78, 4, 172, 3, 172]
abbrev dktX0_rule_0 : List UInt8 := dkwX0_rule_0 ++ []
theorem dksX0_rule_0 : cX0_rule.data.toList.drop 0 = dktX0_rule_0 := by decide +kernel
theorem dX0_rule_0 : decode cX0_rule 0 = .ok (.aload_n 2, 1) := dk_44 (dk_at dksX0_rule_0 0 rfl rfl)
theorem dX0_rule_1 : decode cX0_rule 1 = .ok (.iconst 0, 1) := dk_3 (dk_at dksX0_rule_0 1 rfl rfl)
theorem dX0_rule_2 : decode cX0_rule 2 = .ok (.aload_n 0, 1) := dk_42 (dk_at dksX0_rule_0 2 rfl rfl)
theorem dX0_rule_3 : decode cX0_rule 3 = .ok (.iload_n 1, 1) := dk_27 (dk_at dksX0_rule_0 3 rfl rfl)
theorem dX0_rule_4 : decode cX0_rule 4 = .ok (.invokevirtual 38, 3) := dk_182 0 38 (dk_at dksX0_rule_0 4 rfl rfl)
theorem dX0_rule_7 : decode cX0_rule 7 = .ok (.i2l, 1) := dk_133 (dk_at dksX0_rule_0 7 rfl rfl)
theorem dX0_rule_8 : decode cX0_rule 8 = .ok (.lastore, 1) := dk_80 (dk_at dksX0_rule_0 8 rfl rfl)
theorem dX0_rule_9 : decode cX0_rule 9 = .ok (.goto 6, 3) := dk_167 0 6 (dk_at dksX0_rule_0 9 rfl rfl)
theorem dX0_rule_12 : decode cX0_rule 12 = .ok (.astore_n 3, 1) := dk_78 (dk_at dksX0_rule_0 12 rfl rfl)
theorem dX0_rule_13 : decode cX0_rule 13 = .ok (.iconst 1, 1) := dk_4 (dk_at dksX0_rule_0 13 rfl rfl)
theorem dX0_rule_14 : decode cX0_rule 14 = .ok (.ireturn, 1) := dk_172 (dk_at dksX0_rule_0 14 rfl rfl)
theorem dX0_rule_15 : decode cX0_rule 15 = .ok (.iconst 0, 1) := dk_3 (dk_at dksX0_rule_0 15 rfl rfl)
theorem dX0_rule_16 : decode cX0_rule 16 = .ok (.ireturn, 1) := dk_172 (dk_at dksX0_rule_0 16 rfl rfl)
abbrev cX0_wordAt : ByteArray := method_12_code
def yX0_wordAt : MethodName := ⟨RX0, "wordAt", "(LWordCache;I[J)I"⟩
def dkwX0_wordAt_0 : List UInt8 := [44, 3, 42, 27, 182, 0, 41, 133, 80, 167, 0, 6, 78, 4, 172, 3, 172]
abbrev dktX0_wordAt_0 : List UInt8 := dkwX0_wordAt_0 ++ []
theorem dksX0_wordAt_0 : cX0_wordAt.data.toList.drop 0 = dktX0_wordAt_0 := by decide +kernel
theorem dX0_wordAt_0 : decode cX0_wordAt 0 = .ok (.aload_n 2, 1) := dk_44 (dk_at dksX0_wordAt_0 0 rfl rfl)
theorem dX0_wordAt_1 : decode cX0_wordAt 1 = .ok (.iconst 0, 1) := dk_3 (dk_at dksX0_wordAt_0 1 rfl rfl)
theorem dX0_wordAt_2 : decode cX0_wordAt 2 = .ok (.aload_n 0, 1) := dk_42 (dk_at dksX0_wordAt_0 2 rfl rfl)
theorem dX0_wordAt_3 : decode cX0_wordAt 3 = .ok (.iload_n 1, 1) := dk_27 (dk_at dksX0_wordAt_0 3 rfl rfl)
theorem dX0_wordAt_4 : decode cX0_wordAt 4 = .ok (.invokevirtual 41, 3) := dk_182 0 41 (dk_at dksX0_wordAt_0 4 rfl rfl)
theorem dX0_wordAt_7 : decode cX0_wordAt 7 = .ok (.i2l, 1) := dk_133 (dk_at dksX0_wordAt_0 7 rfl rfl)
theorem dX0_wordAt_8 : decode cX0_wordAt 8 = .ok (.lastore, 1) := dk_80 (dk_at dksX0_wordAt_0 8 rfl rfl)
theorem dX0_wordAt_9 : decode cX0_wordAt 9 = .ok (.goto 6, 3) := dk_167 0 6 (dk_at dksX0_wordAt_0 9 rfl rfl)
theorem dX0_wordAt_12 : decode cX0_wordAt 12 = .ok (.astore_n 3, 1) := dk_78 (dk_at dksX0_wordAt_0 12 rfl rfl)
theorem dX0_wordAt_13 : decode cX0_wordAt 13 = .ok (.iconst 1, 1) := dk_4 (dk_at dksX0_wordAt_0 13 rfl rfl)
theorem dX0_wordAt_14 : decode cX0_wordAt 14 = .ok (.ireturn, 1) := dk_172 (dk_at dksX0_wordAt_0 14 rfl rfl)
theorem dX0_wordAt_15 : decode cX0_wordAt 15 = .ok (.iconst 0, 1) := dk_3 (dk_at dksX0_wordAt_0 15 rfl rfl)
theorem dX0_wordAt_16 : decode cX0_wordAt 16 = .ok (.ireturn, 1) := dk_172 (dk_at dksX0_wordAt_0 16 rfl rfl)
abbrev cX0_wordAgain : ByteArray := method_13_code
def yX0_wordAgain : MethodName := ⟨RX0, "wordAgain", "(LWordCache;I[J)I"⟩
def dkwX0_wordAgain_0 : List UInt8 := [44, 3, 42, 27, 182, 0, 46, 133, 80, 167, 0, 6, 78, 4, 172, 3, 172]
abbrev dktX0_wordAgain_0 : List UInt8 := dkwX0_wordAgain_0 ++ []
theorem dksX0_wordAgain_0 : cX0_wordAgain.data.toList.drop 0 = dktX0_wordAgain_0 := by decide +kernel
theorem dX0_wordAgain_0 : decode cX0_wordAgain 0 = .ok (.aload_n 2, 1) := dk_44 (dk_at dksX0_wordAgain_0 0 rfl rfl)
theorem dX0_wordAgain_1 : decode cX0_wordAgain 1 = .ok (.iconst 0, 1) := dk_3 (dk_at dksX0_wordAgain_0 1 rfl rfl)
theorem dX0_wordAgain_2 : decode cX0_wordAgain 2 = .ok (.aload_n 0, 1) := dk_42 (dk_at dksX0_wordAgain_0 2 rfl rfl)
theorem dX0_wordAgain_3 : decode cX0_wordAgain 3 = .ok (.iload_n 1, 1) := dk_27 (dk_at dksX0_wordAgain_0 3 rfl rfl)
theorem dX0_wordAgain_4 : decode cX0_wordAgain 4 = .ok (.invokevirtual 46, 3) := dk_182 0 46 (dk_at dksX0_wordAgain_0 4 rfl rfl)
theorem dX0_wordAgain_7 : decode cX0_wordAgain 7 = .ok (.i2l, 1) := dk_133 (dk_at dksX0_wordAgain_0 7 rfl rfl)
theorem dX0_wordAgain_8 : decode cX0_wordAgain 8 = .ok (.lastore, 1) := dk_80 (dk_at dksX0_wordAgain_0 8 rfl rfl)
theorem dX0_wordAgain_9 : decode cX0_wordAgain 9 = .ok (.goto 6, 3) := dk_167 0 6 (dk_at dksX0_wordAgain_0 9 rfl rfl)
theorem dX0_wordAgain_12 : decode cX0_wordAgain 12 = .ok (.astore_n 3, 1) := dk_78 (dk_at dksX0_wordAgain_0 12 rfl rfl)
theorem dX0_wordAgain_13 : decode cX0_wordAgain 13 = .ok (.iconst 1, 1) := dk_4 (dk_at dksX0_wordAgain_0 13 rfl rfl)
theorem dX0_wordAgain_14 : decode cX0_wordAgain 14 = .ok (.ireturn, 1) := dk_172 (dk_at dksX0_wordAgain_0 14 rfl rfl)
theorem dX0_wordAgain_15 : decode cX0_wordAgain 15 = .ok (.iconst 0, 1) := dk_3 (dk_at dksX0_wordAgain_0 15 rfl rfl)
theorem dX0_wordAgain_16 : decode cX0_wordAgain 16 = .ok (.ireturn, 1) := dk_172 (dk_at dksX0_wordAgain_0 16 rfl rfl)
abbrev cX0_stored : ByteArray := method_14_code
def yX0_stored : MethodName := ⟨RX0, "stored", "(LWordCache;I[J)I"⟩
def dkwX0_stored_0 : List UInt8 := [44, 3, 42, 27, 182, 0, 49, 133, 80, 167, 0, 6, 78, 4, 172, 3, 172]
abbrev dktX0_stored_0 : List UInt8 := dkwX0_stored_0 ++ []
theorem dksX0_stored_0 : cX0_stored.data.toList.drop 0 = dktX0_stored_0 := by decide +kernel
theorem dX0_stored_0 : decode cX0_stored 0 = .ok (.aload_n 2, 1) := dk_44 (dk_at dksX0_stored_0 0 rfl rfl)
theorem dX0_stored_1 : decode cX0_stored 1 = .ok (.iconst 0, 1) := dk_3 (dk_at dksX0_stored_0 1 rfl rfl)
theorem dX0_stored_2 : decode cX0_stored 2 = .ok (.aload_n 0, 1) := dk_42 (dk_at dksX0_stored_0 2 rfl rfl)
theorem dX0_stored_3 : decode cX0_stored 3 = .ok (.iload_n 1, 1) := dk_27 (dk_at dksX0_stored_0 3 rfl rfl)
theorem dX0_stored_4 : decode cX0_stored 4 = .ok (.invokevirtual 49, 3) := dk_182 0 49 (dk_at dksX0_stored_0 4 rfl rfl)
theorem dX0_stored_7 : decode cX0_stored 7 = .ok (.i2l, 1) := dk_133 (dk_at dksX0_stored_0 7 rfl rfl)
theorem dX0_stored_8 : decode cX0_stored 8 = .ok (.lastore, 1) := dk_80 (dk_at dksX0_stored_0 8 rfl rfl)
theorem dX0_stored_9 : decode cX0_stored 9 = .ok (.goto 6, 3) := dk_167 0 6 (dk_at dksX0_stored_0 9 rfl rfl)
theorem dX0_stored_12 : decode cX0_stored 12 = .ok (.astore_n 3, 1) := dk_78 (dk_at dksX0_stored_0 12 rfl rfl)
theorem dX0_stored_13 : decode cX0_stored 13 = .ok (.iconst 1, 1) := dk_4 (dk_at dksX0_stored_0 13 rfl rfl)
theorem dX0_stored_14 : decode cX0_stored 14 = .ok (.ireturn, 1) := dk_172 (dk_at dksX0_stored_0 14 rfl rfl)
theorem dX0_stored_15 : decode cX0_stored 15 = .ok (.iconst 0, 1) := dk_3 (dk_at dksX0_stored_0 15 rfl rfl)
theorem dX0_stored_16 : decode cX0_stored 16 = .ok (.ireturn, 1) := dk_172 (dk_at dksX0_stored_0 16 rfl rfl)
abbrev cX0_lineOf : ByteArray := method_15_code
def yX0_lineOf : MethodName := ⟨RX0, "lineOf", "(LWordCache;III[J)I"⟩
def dkwX0_lineOf_1 : List UInt8 := [172]
abbrev dktX0_lineOf_1 : List UInt8 := dkwX0_lineOf_1 ++ []
def dkwX0_lineOf_0 : List UInt8 := [25, 4, 3, 42, 27, 28, 29, 182, 0, 52, 133, 80, 167, 0, 11, 58, 5, 4, 172, 58, 5, 5, 172, 3]
abbrev dktX0_lineOf_0 : List UInt8 := dkwX0_lineOf_0 ++ dktX0_lineOf_1
theorem dksX0_lineOf_0 : cX0_lineOf.data.toList.drop 0 = dktX0_lineOf_0 := by decide +kernel
theorem dksX0_lineOf_1 : cX0_lineOf.data.toList.drop 24 = dktX0_lineOf_1 := dk_seg dksX0_lineOf_0 24 rfl rfl
theorem dX0_lineOf_0 : decode cX0_lineOf 0 = .ok (.aload 4, 2) := dk_25 4 (dk_at dksX0_lineOf_0 0 rfl rfl)
theorem dX0_lineOf_2 : decode cX0_lineOf 2 = .ok (.iconst 0, 1) := dk_3 (dk_at dksX0_lineOf_0 2 rfl rfl)
theorem dX0_lineOf_3 : decode cX0_lineOf 3 = .ok (.aload_n 0, 1) := dk_42 (dk_at dksX0_lineOf_0 3 rfl rfl)
theorem dX0_lineOf_4 : decode cX0_lineOf 4 = .ok (.iload_n 1, 1) := dk_27 (dk_at dksX0_lineOf_0 4 rfl rfl)
theorem dX0_lineOf_5 : decode cX0_lineOf 5 = .ok (.iload_n 2, 1) := dk_28 (dk_at dksX0_lineOf_0 5 rfl rfl)
theorem dX0_lineOf_6 : decode cX0_lineOf 6 = .ok (.iload_n 3, 1) := dk_29 (dk_at dksX0_lineOf_0 6 rfl rfl)
theorem dX0_lineOf_7 : decode cX0_lineOf 7 = .ok (.invokevirtual 52, 3) := dk_182 0 52 (dk_at dksX0_lineOf_0 7 rfl rfl)
theorem dX0_lineOf_10 : decode cX0_lineOf 10 = .ok (.i2l, 1) := dk_133 (dk_at dksX0_lineOf_0 10 rfl rfl)
theorem dX0_lineOf_11 : decode cX0_lineOf 11 = .ok (.lastore, 1) := dk_80 (dk_at dksX0_lineOf_0 11 rfl rfl)
theorem dX0_lineOf_12 : decode cX0_lineOf 12 = .ok (.goto 11, 3) := dk_167 0 11 (dk_at dksX0_lineOf_0 12 rfl rfl)
theorem dX0_lineOf_15 : decode cX0_lineOf 15 = .ok (.astore 5, 2) := dk_58 5 (dk_at dksX0_lineOf_0 15 rfl rfl)
theorem dX0_lineOf_17 : decode cX0_lineOf 17 = .ok (.iconst 1, 1) := dk_4 (dk_at dksX0_lineOf_0 17 rfl rfl)
theorem dX0_lineOf_18 : decode cX0_lineOf 18 = .ok (.ireturn, 1) := dk_172 (dk_at dksX0_lineOf_0 18 rfl rfl)
theorem dX0_lineOf_19 : decode cX0_lineOf 19 = .ok (.astore 5, 2) := dk_58 5 (dk_at dksX0_lineOf_0 19 rfl rfl)
theorem dX0_lineOf_21 : decode cX0_lineOf 21 = .ok (.iconst 2, 1) := dk_5 (dk_at dksX0_lineOf_0 21 rfl rfl)
theorem dX0_lineOf_22 : decode cX0_lineOf 22 = .ok (.ireturn, 1) := dk_172 (dk_at dksX0_lineOf_0 22 rfl rfl)
theorem dX0_lineOf_23 : decode cX0_lineOf 23 = .ok (.iconst 0, 1) := dk_3 (dk_at dksX0_lineOf_0 23 rfl rfl)
theorem dX0_lineOf_24 : decode cX0_lineOf 24 = .ok (.ireturn, 1) := dk_172 (dk_at dksX0_lineOf_1 0 rfl rfl)
abbrev cX0_holder : ByteArray := method_16_code
def yX0_holder : MethodName := ⟨RX0, "holder", "(LWordCache;I[J)I"⟩
def dkwX0_holder_0 : List UInt8 := [44, 3, 42, 27, 182, 0, 58, 133, 80, 167, 0, 9, 78, 4, 172, 78, 5, 172, 3, 172]
abbrev dktX0_holder_0 : List UInt8 := dkwX0_holder_0 ++ []
theorem dksX0_holder_0 : cX0_holder.data.toList.drop 0 = dktX0_holder_0 := by decide +kernel
theorem dX0_holder_0 : decode cX0_holder 0 = .ok (.aload_n 2, 1) := dk_44 (dk_at dksX0_holder_0 0 rfl rfl)
theorem dX0_holder_1 : decode cX0_holder 1 = .ok (.iconst 0, 1) := dk_3 (dk_at dksX0_holder_0 1 rfl rfl)
theorem dX0_holder_2 : decode cX0_holder 2 = .ok (.aload_n 0, 1) := dk_42 (dk_at dksX0_holder_0 2 rfl rfl)
theorem dX0_holder_3 : decode cX0_holder 3 = .ok (.iload_n 1, 1) := dk_27 (dk_at dksX0_holder_0 3 rfl rfl)
theorem dX0_holder_4 : decode cX0_holder 4 = .ok (.invokevirtual 58, 3) := dk_182 0 58 (dk_at dksX0_holder_0 4 rfl rfl)
theorem dX0_holder_7 : decode cX0_holder 7 = .ok (.i2l, 1) := dk_133 (dk_at dksX0_holder_0 7 rfl rfl)
theorem dX0_holder_8 : decode cX0_holder 8 = .ok (.lastore, 1) := dk_80 (dk_at dksX0_holder_0 8 rfl rfl)
theorem dX0_holder_9 : decode cX0_holder 9 = .ok (.goto 9, 3) := dk_167 0 9 (dk_at dksX0_holder_0 9 rfl rfl)
theorem dX0_holder_12 : decode cX0_holder 12 = .ok (.astore_n 3, 1) := dk_78 (dk_at dksX0_holder_0 12 rfl rfl)
theorem dX0_holder_13 : decode cX0_holder 13 = .ok (.iconst 1, 1) := dk_4 (dk_at dksX0_holder_0 13 rfl rfl)
theorem dX0_holder_14 : decode cX0_holder 14 = .ok (.ireturn, 1) := dk_172 (dk_at dksX0_holder_0 14 rfl rfl)
theorem dX0_holder_15 : decode cX0_holder 15 = .ok (.astore_n 3, 1) := dk_78 (dk_at dksX0_holder_0 15 rfl rfl)
theorem dX0_holder_16 : decode cX0_holder 16 = .ok (.iconst 2, 1) := dk_5 (dk_at dksX0_holder_0 16 rfl rfl)
theorem dX0_holder_17 : decode cX0_holder 17 = .ok (.ireturn, 1) := dk_172 (dk_at dksX0_holder_0 17 rfl rfl)
theorem dX0_holder_18 : decode cX0_holder 18 = .ok (.iconst 0, 1) := dk_3 (dk_at dksX0_holder_0 18 rfl rfl)
theorem dX0_holder_19 : decode cX0_holder 19 = .ok (.ireturn, 1) := dk_172 (dk_at dksX0_holder_0 19 rfl rfl)
abbrev cX0_comesTo : ByteArray := method_17_code
def yX0_comesTo : MethodName := ⟨RX0, "comesTo", "(LWordCache;I[J)I"⟩
def dkwX0_comesTo_0 : List UInt8 := [44, 3, 42, 27, 182, 0, 63, 133, 80, 167, 0, 9, 78, 4, 172, 78, 5, 172, 3, 172]
abbrev dktX0_comesTo_0 : List UInt8 := dkwX0_comesTo_0 ++ []
theorem dksX0_comesTo_0 : cX0_comesTo.data.toList.drop 0 = dktX0_comesTo_0 := by decide +kernel
theorem dX0_comesTo_0 : decode cX0_comesTo 0 = .ok (.aload_n 2, 1) := dk_44 (dk_at dksX0_comesTo_0 0 rfl rfl)
theorem dX0_comesTo_1 : decode cX0_comesTo 1 = .ok (.iconst 0, 1) := dk_3 (dk_at dksX0_comesTo_0 1 rfl rfl)
theorem dX0_comesTo_2 : decode cX0_comesTo 2 = .ok (.aload_n 0, 1) := dk_42 (dk_at dksX0_comesTo_0 2 rfl rfl)
theorem dX0_comesTo_3 : decode cX0_comesTo 3 = .ok (.iload_n 1, 1) := dk_27 (dk_at dksX0_comesTo_0 3 rfl rfl)
theorem dX0_comesTo_4 : decode cX0_comesTo 4 = .ok (.invokevirtual 63, 3) := dk_182 0 63 (dk_at dksX0_comesTo_0 4 rfl rfl)
theorem dX0_comesTo_7 : decode cX0_comesTo 7 = .ok (.i2l, 1) := dk_133 (dk_at dksX0_comesTo_0 7 rfl rfl)
theorem dX0_comesTo_8 : decode cX0_comesTo 8 = .ok (.lastore, 1) := dk_80 (dk_at dksX0_comesTo_0 8 rfl rfl)
theorem dX0_comesTo_9 : decode cX0_comesTo 9 = .ok (.goto 9, 3) := dk_167 0 9 (dk_at dksX0_comesTo_0 9 rfl rfl)
theorem dX0_comesTo_12 : decode cX0_comesTo 12 = .ok (.astore_n 3, 1) := dk_78 (dk_at dksX0_comesTo_0 12 rfl rfl)
theorem dX0_comesTo_13 : decode cX0_comesTo 13 = .ok (.iconst 1, 1) := dk_4 (dk_at dksX0_comesTo_0 13 rfl rfl)
theorem dX0_comesTo_14 : decode cX0_comesTo 14 = .ok (.ireturn, 1) := dk_172 (dk_at dksX0_comesTo_0 14 rfl rfl)
theorem dX0_comesTo_15 : decode cX0_comesTo 15 = .ok (.astore_n 3, 1) := dk_78 (dk_at dksX0_comesTo_0 15 rfl rfl)
theorem dX0_comesTo_16 : decode cX0_comesTo 16 = .ok (.iconst 2, 1) := dk_5 (dk_at dksX0_comesTo_0 16 rfl rfl)
theorem dX0_comesTo_17 : decode cX0_comesTo 17 = .ok (.ireturn, 1) := dk_172 (dk_at dksX0_comesTo_0 17 rfl rfl)
theorem dX0_comesTo_18 : decode cX0_comesTo 18 = .ok (.iconst 0, 1) := dk_3 (dk_at dksX0_comesTo_0 18 rfl rfl)
theorem dX0_comesTo_19 : decode cX0_comesTo 19 = .ok (.ireturn, 1) := dk_172 (dk_at dksX0_comesTo_0 19 rfl rfl)
abbrev cX0_giving : ByteArray := method_18_code
def yX0_giving : MethodName := ⟨RX0, "giving", "(LWordCache;II[J)I"⟩
def dkwX0_giving_0 : List UInt8 := [45, 3, 42, 27, 28, 182, 0, 66, 133, 80, 167, 0, 11, 58, 4, 4, 172, 58, 4, 5, 172, 3, 172]
abbrev dktX0_giving_0 : List UInt8 := dkwX0_giving_0 ++ []
theorem dksX0_giving_0 : cX0_giving.data.toList.drop 0 = dktX0_giving_0 := by decide +kernel
theorem dX0_giving_0 : decode cX0_giving 0 = .ok (.aload_n 3, 1) := dk_45 (dk_at dksX0_giving_0 0 rfl rfl)
theorem dX0_giving_1 : decode cX0_giving 1 = .ok (.iconst 0, 1) := dk_3 (dk_at dksX0_giving_0 1 rfl rfl)
theorem dX0_giving_2 : decode cX0_giving 2 = .ok (.aload_n 0, 1) := dk_42 (dk_at dksX0_giving_0 2 rfl rfl)
theorem dX0_giving_3 : decode cX0_giving 3 = .ok (.iload_n 1, 1) := dk_27 (dk_at dksX0_giving_0 3 rfl rfl)
theorem dX0_giving_4 : decode cX0_giving 4 = .ok (.iload_n 2, 1) := dk_28 (dk_at dksX0_giving_0 4 rfl rfl)
theorem dX0_giving_5 : decode cX0_giving 5 = .ok (.invokevirtual 66, 3) := dk_182 0 66 (dk_at dksX0_giving_0 5 rfl rfl)
theorem dX0_giving_8 : decode cX0_giving 8 = .ok (.i2l, 1) := dk_133 (dk_at dksX0_giving_0 8 rfl rfl)
theorem dX0_giving_9 : decode cX0_giving 9 = .ok (.lastore, 1) := dk_80 (dk_at dksX0_giving_0 9 rfl rfl)
theorem dX0_giving_10 : decode cX0_giving 10 = .ok (.goto 11, 3) := dk_167 0 11 (dk_at dksX0_giving_0 10 rfl rfl)
theorem dX0_giving_13 : decode cX0_giving 13 = .ok (.astore 4, 2) := dk_58 4 (dk_at dksX0_giving_0 13 rfl rfl)
theorem dX0_giving_15 : decode cX0_giving 15 = .ok (.iconst 1, 1) := dk_4 (dk_at dksX0_giving_0 15 rfl rfl)
theorem dX0_giving_16 : decode cX0_giving 16 = .ok (.ireturn, 1) := dk_172 (dk_at dksX0_giving_0 16 rfl rfl)
theorem dX0_giving_17 : decode cX0_giving 17 = .ok (.astore 4, 2) := dk_58 4 (dk_at dksX0_giving_0 17 rfl rfl)
theorem dX0_giving_19 : decode cX0_giving 19 = .ok (.iconst 2, 1) := dk_5 (dk_at dksX0_giving_0 19 rfl rfl)
theorem dX0_giving_20 : decode cX0_giving 20 = .ok (.ireturn, 1) := dk_172 (dk_at dksX0_giving_0 20 rfl rfl)
theorem dX0_giving_21 : decode cX0_giving 21 = .ok (.iconst 0, 1) := dk_3 (dk_at dksX0_giving_0 21 rfl rfl)
theorem dX0_giving_22 : decode cX0_giving 22 = .ok (.ireturn, 1) := dk_172 (dk_at dksX0_giving_0 22 rfl rfl)
abbrev cX0_wouldTake : ByteArray := method_19_code
def yX0_wouldTake : MethodName := ⟨RX0, "wouldTake", "(LWordCache;I[J)I"⟩
def dkwX0_wouldTake_0 : List UInt8 := [44, 3, 42, 27, 182, 0, 69, 133, 80, 167, 0, 9, 78, 4, 172, 78, 5, 172, 3, 172]
abbrev dktX0_wouldTake_0 : List UInt8 := dkwX0_wouldTake_0 ++ []
theorem dksX0_wouldTake_0 : cX0_wouldTake.data.toList.drop 0 = dktX0_wouldTake_0 := by decide +kernel
theorem dX0_wouldTake_0 : decode cX0_wouldTake 0 = .ok (.aload_n 2, 1) := dk_44 (dk_at dksX0_wouldTake_0 0 rfl rfl)
theorem dX0_wouldTake_1 : decode cX0_wouldTake 1 = .ok (.iconst 0, 1) := dk_3 (dk_at dksX0_wouldTake_0 1 rfl rfl)
theorem dX0_wouldTake_2 : decode cX0_wouldTake 2 = .ok (.aload_n 0, 1) := dk_42 (dk_at dksX0_wouldTake_0 2 rfl rfl)
theorem dX0_wouldTake_3 : decode cX0_wouldTake 3 = .ok (.iload_n 1, 1) := dk_27 (dk_at dksX0_wouldTake_0 3 rfl rfl)
theorem dX0_wouldTake_4 : decode cX0_wouldTake 4 = .ok (.invokevirtual 69, 3) := dk_182 0 69 (dk_at dksX0_wouldTake_0 4 rfl rfl)
theorem dX0_wouldTake_7 : decode cX0_wouldTake 7 = .ok (.i2l, 1) := dk_133 (dk_at dksX0_wouldTake_0 7 rfl rfl)
theorem dX0_wouldTake_8 : decode cX0_wouldTake 8 = .ok (.lastore, 1) := dk_80 (dk_at dksX0_wouldTake_0 8 rfl rfl)
theorem dX0_wouldTake_9 : decode cX0_wouldTake 9 = .ok (.goto 9, 3) := dk_167 0 9 (dk_at dksX0_wouldTake_0 9 rfl rfl)
theorem dX0_wouldTake_12 : decode cX0_wouldTake 12 = .ok (.astore_n 3, 1) := dk_78 (dk_at dksX0_wouldTake_0 12 rfl rfl)
theorem dX0_wouldTake_13 : decode cX0_wouldTake 13 = .ok (.iconst 1, 1) := dk_4 (dk_at dksX0_wouldTake_0 13 rfl rfl)
theorem dX0_wouldTake_14 : decode cX0_wouldTake 14 = .ok (.ireturn, 1) := dk_172 (dk_at dksX0_wouldTake_0 14 rfl rfl)
theorem dX0_wouldTake_15 : decode cX0_wouldTake 15 = .ok (.astore_n 3, 1) := dk_78 (dk_at dksX0_wouldTake_0 15 rfl rfl)
theorem dX0_wouldTake_16 : decode cX0_wouldTake 16 = .ok (.iconst 2, 1) := dk_5 (dk_at dksX0_wouldTake_0 16 rfl rfl)
theorem dX0_wouldTake_17 : decode cX0_wouldTake 17 = .ok (.ireturn, 1) := dk_172 (dk_at dksX0_wouldTake_0 17 rfl rfl)
theorem dX0_wouldTake_18 : decode cX0_wouldTake 18 = .ok (.iconst 0, 1) := dk_3 (dk_at dksX0_wouldTake_0 18 rfl rfl)
theorem dX0_wouldTake_19 : decode cX0_wouldTake 19 = .ok (.ireturn, 1) := dk_172 (dk_at dksX0_wouldTake_0 19 rfl rfl)
abbrev cX0_causeOf : ByteArray := method_20_code
def yX0_causeOf : MethodName := ⟨RX0, "causeOf", "(LWordCache;I[J)I"⟩
def dkwX0_causeOf_0 : List UInt8 := [44, 3, 42, 27, 182, 0, 72, 133, 80, 167, 0, 9, 78, 4, 172, 78, 5, 172, 3, 172]
abbrev dktX0_causeOf_0 : List UInt8 := dkwX0_causeOf_0 ++ []
theorem dksX0_causeOf_0 : cX0_causeOf.data.toList.drop 0 = dktX0_causeOf_0 := by decide +kernel
theorem dX0_causeOf_0 : decode cX0_causeOf 0 = .ok (.aload_n 2, 1) := dk_44 (dk_at dksX0_causeOf_0 0 rfl rfl)
theorem dX0_causeOf_1 : decode cX0_causeOf 1 = .ok (.iconst 0, 1) := dk_3 (dk_at dksX0_causeOf_0 1 rfl rfl)
theorem dX0_causeOf_2 : decode cX0_causeOf 2 = .ok (.aload_n 0, 1) := dk_42 (dk_at dksX0_causeOf_0 2 rfl rfl)
theorem dX0_causeOf_3 : decode cX0_causeOf 3 = .ok (.iload_n 1, 1) := dk_27 (dk_at dksX0_causeOf_0 3 rfl rfl)
theorem dX0_causeOf_4 : decode cX0_causeOf 4 = .ok (.invokevirtual 72, 3) := dk_182 0 72 (dk_at dksX0_causeOf_0 4 rfl rfl)
theorem dX0_causeOf_7 : decode cX0_causeOf 7 = .ok (.i2l, 1) := dk_133 (dk_at dksX0_causeOf_0 7 rfl rfl)
theorem dX0_causeOf_8 : decode cX0_causeOf 8 = .ok (.lastore, 1) := dk_80 (dk_at dksX0_causeOf_0 8 rfl rfl)
theorem dX0_causeOf_9 : decode cX0_causeOf 9 = .ok (.goto 9, 3) := dk_167 0 9 (dk_at dksX0_causeOf_0 9 rfl rfl)
theorem dX0_causeOf_12 : decode cX0_causeOf 12 = .ok (.astore_n 3, 1) := dk_78 (dk_at dksX0_causeOf_0 12 rfl rfl)
theorem dX0_causeOf_13 : decode cX0_causeOf 13 = .ok (.iconst 1, 1) := dk_4 (dk_at dksX0_causeOf_0 13 rfl rfl)
theorem dX0_causeOf_14 : decode cX0_causeOf 14 = .ok (.ireturn, 1) := dk_172 (dk_at dksX0_causeOf_0 14 rfl rfl)
theorem dX0_causeOf_15 : decode cX0_causeOf 15 = .ok (.astore_n 3, 1) := dk_78 (dk_at dksX0_causeOf_0 15 rfl rfl)
theorem dX0_causeOf_16 : decode cX0_causeOf 16 = .ok (.iconst 2, 1) := dk_5 (dk_at dksX0_causeOf_0 16 rfl rfl)
theorem dX0_causeOf_17 : decode cX0_causeOf 17 = .ok (.ireturn, 1) := dk_172 (dk_at dksX0_causeOf_0 17 rfl rfl)
theorem dX0_causeOf_18 : decode cX0_causeOf 18 = .ok (.iconst 0, 1) := dk_3 (dk_at dksX0_causeOf_0 18 rfl rfl)
theorem dX0_causeOf_19 : decode cX0_causeOf 19 = .ok (.ireturn, 1) := dk_172 (dk_at dksX0_causeOf_0 19 rfl rfl)
abbrev cX0_freeIn : ByteArray := method_21_code
def yX0_freeIn : MethodName := ⟨RX0, "freeIn", "(LWordCache;I[J)I"⟩
def dkwX0_freeIn_0 : List UInt8 := [44, 3, 42, 27, 182, 0, 75, 133, 80, 167, 0, 6, 78, 4, 172, 3, 172]
abbrev dktX0_freeIn_0 : List UInt8 := dkwX0_freeIn_0 ++ []
theorem dksX0_freeIn_0 : cX0_freeIn.data.toList.drop 0 = dktX0_freeIn_0 := by decide +kernel
theorem dX0_freeIn_0 : decode cX0_freeIn 0 = .ok (.aload_n 2, 1) := dk_44 (dk_at dksX0_freeIn_0 0 rfl rfl)
theorem dX0_freeIn_1 : decode cX0_freeIn 1 = .ok (.iconst 0, 1) := dk_3 (dk_at dksX0_freeIn_0 1 rfl rfl)
theorem dX0_freeIn_2 : decode cX0_freeIn 2 = .ok (.aload_n 0, 1) := dk_42 (dk_at dksX0_freeIn_0 2 rfl rfl)
theorem dX0_freeIn_3 : decode cX0_freeIn 3 = .ok (.iload_n 1, 1) := dk_27 (dk_at dksX0_freeIn_0 3 rfl rfl)
theorem dX0_freeIn_4 : decode cX0_freeIn 4 = .ok (.invokevirtual 75, 3) := dk_182 0 75 (dk_at dksX0_freeIn_0 4 rfl rfl)
theorem dX0_freeIn_7 : decode cX0_freeIn 7 = .ok (.i2l, 1) := dk_133 (dk_at dksX0_freeIn_0 7 rfl rfl)
theorem dX0_freeIn_8 : decode cX0_freeIn 8 = .ok (.lastore, 1) := dk_80 (dk_at dksX0_freeIn_0 8 rfl rfl)
theorem dX0_freeIn_9 : decode cX0_freeIn 9 = .ok (.goto 6, 3) := dk_167 0 6 (dk_at dksX0_freeIn_0 9 rfl rfl)
theorem dX0_freeIn_12 : decode cX0_freeIn 12 = .ok (.astore_n 3, 1) := dk_78 (dk_at dksX0_freeIn_0 12 rfl rfl)
theorem dX0_freeIn_13 : decode cX0_freeIn 13 = .ok (.iconst 1, 1) := dk_4 (dk_at dksX0_freeIn_0 13 rfl rfl)
theorem dX0_freeIn_14 : decode cX0_freeIn 14 = .ok (.ireturn, 1) := dk_172 (dk_at dksX0_freeIn_0 14 rfl rfl)
theorem dX0_freeIn_15 : decode cX0_freeIn 15 = .ok (.iconst 0, 1) := dk_3 (dk_at dksX0_freeIn_0 15 rfl rfl)
theorem dX0_freeIn_16 : decode cX0_freeIn 16 = .ok (.ireturn, 1) := dk_172 (dk_at dksX0_freeIn_0 16 rfl rfl)
abbrev cX0_latest : ByteArray := method_22_code
def yX0_latest : MethodName := ⟨RX0, "latest", "(LWordCache;I[J)I"⟩
def dkwX0_latest_0 : List UInt8 := [44, 3, 42, 27, 182, 0, 78, 133, 80, 167, 0, 6, 78, 4, 172, 3, 172]
abbrev dktX0_latest_0 : List UInt8 := dkwX0_latest_0 ++ []
theorem dksX0_latest_0 : cX0_latest.data.toList.drop 0 = dktX0_latest_0 := by decide +kernel
theorem dX0_latest_0 : decode cX0_latest 0 = .ok (.aload_n 2, 1) := dk_44 (dk_at dksX0_latest_0 0 rfl rfl)
theorem dX0_latest_1 : decode cX0_latest 1 = .ok (.iconst 0, 1) := dk_3 (dk_at dksX0_latest_0 1 rfl rfl)
theorem dX0_latest_2 : decode cX0_latest 2 = .ok (.aload_n 0, 1) := dk_42 (dk_at dksX0_latest_0 2 rfl rfl)
theorem dX0_latest_3 : decode cX0_latest 3 = .ok (.iload_n 1, 1) := dk_27 (dk_at dksX0_latest_0 3 rfl rfl)
theorem dX0_latest_4 : decode cX0_latest 4 = .ok (.invokevirtual 78, 3) := dk_182 0 78 (dk_at dksX0_latest_0 4 rfl rfl)
theorem dX0_latest_7 : decode cX0_latest 7 = .ok (.i2l, 1) := dk_133 (dk_at dksX0_latest_0 7 rfl rfl)
theorem dX0_latest_8 : decode cX0_latest 8 = .ok (.lastore, 1) := dk_80 (dk_at dksX0_latest_0 8 rfl rfl)
theorem dX0_latest_9 : decode cX0_latest 9 = .ok (.goto 6, 3) := dk_167 0 6 (dk_at dksX0_latest_0 9 rfl rfl)
theorem dX0_latest_12 : decode cX0_latest 12 = .ok (.astore_n 3, 1) := dk_78 (dk_at dksX0_latest_0 12 rfl rfl)
theorem dX0_latest_13 : decode cX0_latest 13 = .ok (.iconst 1, 1) := dk_4 (dk_at dksX0_latest_0 13 rfl rfl)
theorem dX0_latest_14 : decode cX0_latest 14 = .ok (.ireturn, 1) := dk_172 (dk_at dksX0_latest_0 14 rfl rfl)
theorem dX0_latest_15 : decode cX0_latest 15 = .ok (.iconst 0, 1) := dk_3 (dk_at dksX0_latest_0 15 rfl rfl)
theorem dX0_latest_16 : decode cX0_latest 16 = .ok (.ireturn, 1) := dk_172 (dk_at dksX0_latest_0 16 rfl rfl)
abbrev cX0_ranked : ByteArray := method_23_code
def yX0_ranked : MethodName := ⟨RX0, "ranked", "(LWordCache;I[J)I"⟩
def dkwX0_ranked_0 : List UInt8 := [44, 3, 42, 27, 182, 0, 81, 133, 80, 167, 0, 6, 78, 4, 172, 3, 172]
abbrev dktX0_ranked_0 : List UInt8 := dkwX0_ranked_0 ++ []
theorem dksX0_ranked_0 : cX0_ranked.data.toList.drop 0 = dktX0_ranked_0 := by decide +kernel
theorem dX0_ranked_0 : decode cX0_ranked 0 = .ok (.aload_n 2, 1) := dk_44 (dk_at dksX0_ranked_0 0 rfl rfl)
theorem dX0_ranked_1 : decode cX0_ranked 1 = .ok (.iconst 0, 1) := dk_3 (dk_at dksX0_ranked_0 1 rfl rfl)
theorem dX0_ranked_2 : decode cX0_ranked 2 = .ok (.aload_n 0, 1) := dk_42 (dk_at dksX0_ranked_0 2 rfl rfl)
theorem dX0_ranked_3 : decode cX0_ranked 3 = .ok (.iload_n 1, 1) := dk_27 (dk_at dksX0_ranked_0 3 rfl rfl)
theorem dX0_ranked_4 : decode cX0_ranked 4 = .ok (.invokevirtual 81, 3) := dk_182 0 81 (dk_at dksX0_ranked_0 4 rfl rfl)
theorem dX0_ranked_7 : decode cX0_ranked 7 = .ok (.i2l, 1) := dk_133 (dk_at dksX0_ranked_0 7 rfl rfl)
theorem dX0_ranked_8 : decode cX0_ranked 8 = .ok (.lastore, 1) := dk_80 (dk_at dksX0_ranked_0 8 rfl rfl)
theorem dX0_ranked_9 : decode cX0_ranked 9 = .ok (.goto 6, 3) := dk_167 0 6 (dk_at dksX0_ranked_0 9 rfl rfl)
theorem dX0_ranked_12 : decode cX0_ranked 12 = .ok (.astore_n 3, 1) := dk_78 (dk_at dksX0_ranked_0 12 rfl rfl)
theorem dX0_ranked_13 : decode cX0_ranked 13 = .ok (.iconst 1, 1) := dk_4 (dk_at dksX0_ranked_0 13 rfl rfl)
theorem dX0_ranked_14 : decode cX0_ranked 14 = .ok (.ireturn, 1) := dk_172 (dk_at dksX0_ranked_0 14 rfl rfl)
theorem dX0_ranked_15 : decode cX0_ranked 15 = .ok (.iconst 0, 1) := dk_3 (dk_at dksX0_ranked_0 15 rfl rfl)
theorem dX0_ranked_16 : decode cX0_ranked 16 = .ok (.ireturn, 1) := dk_172 (dk_at dksX0_ranked_0 16 rfl rfl)
abbrev cX0_nextDirty : ByteArray := method_24_code
def yX0_nextDirty : MethodName := ⟨RX0, "nextDirty", "(LWordCache;I[J)I"⟩
def dkwX0_nextDirty_0 : List UInt8 := [44, 3, 42, 27, 182, 0, 84, 133, 80, 167, 0, 9, 78, 4, 172, 78, 5, 172, 3, 172]
abbrev dktX0_nextDirty_0 : List UInt8 := dkwX0_nextDirty_0 ++ []
theorem dksX0_nextDirty_0 : cX0_nextDirty.data.toList.drop 0 = dktX0_nextDirty_0 := by decide +kernel
theorem dX0_nextDirty_0 : decode cX0_nextDirty 0 = .ok (.aload_n 2, 1) := dk_44 (dk_at dksX0_nextDirty_0 0 rfl rfl)
theorem dX0_nextDirty_1 : decode cX0_nextDirty 1 = .ok (.iconst 0, 1) := dk_3 (dk_at dksX0_nextDirty_0 1 rfl rfl)
theorem dX0_nextDirty_2 : decode cX0_nextDirty 2 = .ok (.aload_n 0, 1) := dk_42 (dk_at dksX0_nextDirty_0 2 rfl rfl)
theorem dX0_nextDirty_3 : decode cX0_nextDirty 3 = .ok (.iload_n 1, 1) := dk_27 (dk_at dksX0_nextDirty_0 3 rfl rfl)
theorem dX0_nextDirty_4 : decode cX0_nextDirty 4 = .ok (.invokevirtual 84, 3) := dk_182 0 84 (dk_at dksX0_nextDirty_0 4 rfl rfl)
theorem dX0_nextDirty_7 : decode cX0_nextDirty 7 = .ok (.i2l, 1) := dk_133 (dk_at dksX0_nextDirty_0 7 rfl rfl)
theorem dX0_nextDirty_8 : decode cX0_nextDirty 8 = .ok (.lastore, 1) := dk_80 (dk_at dksX0_nextDirty_0 8 rfl rfl)
theorem dX0_nextDirty_9 : decode cX0_nextDirty 9 = .ok (.goto 9, 3) := dk_167 0 9 (dk_at dksX0_nextDirty_0 9 rfl rfl)
theorem dX0_nextDirty_12 : decode cX0_nextDirty 12 = .ok (.astore_n 3, 1) := dk_78 (dk_at dksX0_nextDirty_0 12 rfl rfl)
theorem dX0_nextDirty_13 : decode cX0_nextDirty 13 = .ok (.iconst 1, 1) := dk_4 (dk_at dksX0_nextDirty_0 13 rfl rfl)
theorem dX0_nextDirty_14 : decode cX0_nextDirty 14 = .ok (.ireturn, 1) := dk_172 (dk_at dksX0_nextDirty_0 14 rfl rfl)
theorem dX0_nextDirty_15 : decode cX0_nextDirty 15 = .ok (.astore_n 3, 1) := dk_78 (dk_at dksX0_nextDirty_0 15 rfl rfl)
theorem dX0_nextDirty_16 : decode cX0_nextDirty 16 = .ok (.iconst 2, 1) := dk_5 (dk_at dksX0_nextDirty_0 16 rfl rfl)
theorem dX0_nextDirty_17 : decode cX0_nextDirty 17 = .ok (.ireturn, 1) := dk_172 (dk_at dksX0_nextDirty_0 17 rfl rfl)
theorem dX0_nextDirty_18 : decode cX0_nextDirty 18 = .ok (.iconst 0, 1) := dk_3 (dk_at dksX0_nextDirty_0 18 rfl rfl)
theorem dX0_nextDirty_19 : decode cX0_nextDirty 19 = .ok (.ireturn, 1) := dk_172 (dk_at dksX0_nextDirty_0 19 rfl rfl)
abbrev cX0_feed : ByteArray := method_25_code
def yX0_feed : MethodName := ⟨RX0, "feed", "(LWordCache;C[J)I"⟩
def dkwX0_feed_0 : List UInt8 := [44, 3, 42, 27, 182, 0, 87, 133, 80, 167, 0, 6, 78, 4, 172, 3, 172]
abbrev dktX0_feed_0 : List UInt8 := dkwX0_feed_0 ++ []
theorem dksX0_feed_0 : cX0_feed.data.toList.drop 0 = dktX0_feed_0 := by decide +kernel
theorem dX0_feed_0 : decode cX0_feed 0 = .ok (.aload_n 2, 1) := dk_44 (dk_at dksX0_feed_0 0 rfl rfl)
theorem dX0_feed_1 : decode cX0_feed 1 = .ok (.iconst 0, 1) := dk_3 (dk_at dksX0_feed_0 1 rfl rfl)
theorem dX0_feed_2 : decode cX0_feed 2 = .ok (.aload_n 0, 1) := dk_42 (dk_at dksX0_feed_0 2 rfl rfl)
theorem dX0_feed_3 : decode cX0_feed 3 = .ok (.iload_n 1, 1) := dk_27 (dk_at dksX0_feed_0 3 rfl rfl)
theorem dX0_feed_4 : decode cX0_feed 4 = .ok (.invokevirtual 87, 3) := dk_182 0 87 (dk_at dksX0_feed_0 4 rfl rfl)
theorem dX0_feed_7 : decode cX0_feed 7 = .ok (.i2l, 1) := dk_133 (dk_at dksX0_feed_0 7 rfl rfl)
theorem dX0_feed_8 : decode cX0_feed 8 = .ok (.lastore, 1) := dk_80 (dk_at dksX0_feed_0 8 rfl rfl)
theorem dX0_feed_9 : decode cX0_feed 9 = .ok (.goto 6, 3) := dk_167 0 6 (dk_at dksX0_feed_0 9 rfl rfl)
theorem dX0_feed_12 : decode cX0_feed 12 = .ok (.astore_n 3, 1) := dk_78 (dk_at dksX0_feed_0 12 rfl rfl)
theorem dX0_feed_13 : decode cX0_feed 13 = .ok (.iconst 1, 1) := dk_4 (dk_at dksX0_feed_0 13 rfl rfl)
theorem dX0_feed_14 : decode cX0_feed 14 = .ok (.ireturn, 1) := dk_172 (dk_at dksX0_feed_0 14 rfl rfl)
theorem dX0_feed_15 : decode cX0_feed 15 = .ok (.iconst 0, 1) := dk_3 (dk_at dksX0_feed_0 15 rfl rfl)
theorem dX0_feed_16 : decode cX0_feed 16 = .ok (.ireturn, 1) := dk_172 (dk_at dksX0_feed_0 16 rfl rfl)
abbrev cX0_run : ByteArray := method_26_code
def yX0_run : MethodName := ⟨RX0, "run", "(LWordCache;[J)I"⟩
def dkwX0_run_0 : List UInt8 := [43, 3, 42, 182, 0, 93, 133, 80, 167, 0, 9, 77, 4, 172, 77, 5, 172, 3, 172]
abbrev dktX0_run_0 : List UInt8 := dkwX0_run_0 ++ []
theorem dksX0_run_0 : cX0_run.data.toList.drop 0 = dktX0_run_0 := by decide +kernel
theorem dX0_run_0 : decode cX0_run 0 = .ok (.aload_n 1, 1) := dk_43 (dk_at dksX0_run_0 0 rfl rfl)
theorem dX0_run_1 : decode cX0_run 1 = .ok (.iconst 0, 1) := dk_3 (dk_at dksX0_run_0 1 rfl rfl)
theorem dX0_run_2 : decode cX0_run 2 = .ok (.aload_n 0, 1) := dk_42 (dk_at dksX0_run_0 2 rfl rfl)
theorem dX0_run_3 : decode cX0_run 3 = .ok (.invokevirtual 93, 3) := dk_182 0 93 (dk_at dksX0_run_0 3 rfl rfl)
theorem dX0_run_6 : decode cX0_run 6 = .ok (.i2l, 1) := dk_133 (dk_at dksX0_run_0 6 rfl rfl)
theorem dX0_run_7 : decode cX0_run 7 = .ok (.lastore, 1) := dk_80 (dk_at dksX0_run_0 7 rfl rfl)
theorem dX0_run_8 : decode cX0_run 8 = .ok (.goto 9, 3) := dk_167 0 9 (dk_at dksX0_run_0 8 rfl rfl)
theorem dX0_run_11 : decode cX0_run 11 = .ok (.astore_n 2, 1) := dk_77 (dk_at dksX0_run_0 11 rfl rfl)
theorem dX0_run_12 : decode cX0_run 12 = .ok (.iconst 1, 1) := dk_4 (dk_at dksX0_run_0 12 rfl rfl)
theorem dX0_run_13 : decode cX0_run 13 = .ok (.ireturn, 1) := dk_172 (dk_at dksX0_run_0 13 rfl rfl)
theorem dX0_run_14 : decode cX0_run 14 = .ok (.astore_n 2, 1) := dk_77 (dk_at dksX0_run_0 14 rfl rfl)
theorem dX0_run_15 : decode cX0_run 15 = .ok (.iconst 2, 1) := dk_5 (dk_at dksX0_run_0 15 rfl rfl)
theorem dX0_run_16 : decode cX0_run 16 = .ok (.ireturn, 1) := dk_172 (dk_at dksX0_run_0 16 rfl rfl)
theorem dX0_run_17 : decode cX0_run 17 = .ok (.iconst 0, 1) := dk_3 (dk_at dksX0_run_0 17 rfl rfl)
theorem dX0_run_18 : decode cX0_run 18 = .ok (.ireturn, 1) := dk_172 (dk_at dksX0_run_0 18 rfl rfl)
abbrev cX0_faultPosition : ByteArray := method_27_code
def yX0_faultPosition : MethodName := ⟨RX0, "faultPosition", "(LWordCache;[J)I"⟩
def dkwX0_faultPosition_0 : List UInt8 := [43, 3, 42, 182, 0, 96, 133, 80, 167, 0, 6, 77, 4, 172, 3, 172]
abbrev dktX0_faultPosition_0 : List UInt8 := dkwX0_faultPosition_0 ++ []
theorem dksX0_faultPosition_0 : cX0_faultPosition.data.toList.drop 0 = dktX0_faultPosition_0 := by decide +kernel
theorem dX0_faultPosition_0 : decode cX0_faultPosition 0 = .ok (.aload_n 1, 1) := dk_43 (dk_at dksX0_faultPosition_0 0 rfl rfl)
theorem dX0_faultPosition_1 : decode cX0_faultPosition 1 = .ok (.iconst 0, 1) := dk_3 (dk_at dksX0_faultPosition_0 1 rfl rfl)
theorem dX0_faultPosition_2 : decode cX0_faultPosition 2 = .ok (.aload_n 0, 1) := dk_42 (dk_at dksX0_faultPosition_0 2 rfl rfl)
theorem dX0_faultPosition_3 : decode cX0_faultPosition 3 = .ok (.invokevirtual 96, 3) := dk_182 0 96 (dk_at dksX0_faultPosition_0 3 rfl rfl)
theorem dX0_faultPosition_6 : decode cX0_faultPosition 6 = .ok (.i2l, 1) := dk_133 (dk_at dksX0_faultPosition_0 6 rfl rfl)
theorem dX0_faultPosition_7 : decode cX0_faultPosition 7 = .ok (.lastore, 1) := dk_80 (dk_at dksX0_faultPosition_0 7 rfl rfl)
theorem dX0_faultPosition_8 : decode cX0_faultPosition 8 = .ok (.goto 6, 3) := dk_167 0 6 (dk_at dksX0_faultPosition_0 8 rfl rfl)
theorem dX0_faultPosition_11 : decode cX0_faultPosition 11 = .ok (.astore_n 2, 1) := dk_77 (dk_at dksX0_faultPosition_0 11 rfl rfl)
theorem dX0_faultPosition_12 : decode cX0_faultPosition 12 = .ok (.iconst 1, 1) := dk_4 (dk_at dksX0_faultPosition_0 12 rfl rfl)
theorem dX0_faultPosition_13 : decode cX0_faultPosition 13 = .ok (.ireturn, 1) := dk_172 (dk_at dksX0_faultPosition_0 13 rfl rfl)
theorem dX0_faultPosition_14 : decode cX0_faultPosition 14 = .ok (.iconst 0, 1) := dk_3 (dk_at dksX0_faultPosition_0 14 rfl rfl)
theorem dX0_faultPosition_15 : decode cX0_faultPosition 15 = .ok (.ireturn, 1) := dk_172 (dk_at dksX0_faultPosition_0 15 rfl rfl)
abbrev cX0_reason : ByteArray := method_28_code
def yX0_reason : MethodName := ⟨RX0, "reason", "(LWordCache;ZZ[J)I"⟩
def dkwX0_reason_0 : List UInt8 := [45, 3, 42, 27, 28, 182, 0, 99, 133, 80, 167, 0, 7, 58, 4, 4, 172, 3, 172]
abbrev dktX0_reason_0 : List UInt8 := dkwX0_reason_0 ++ []
theorem dksX0_reason_0 : cX0_reason.data.toList.drop 0 = dktX0_reason_0 := by decide +kernel
theorem dX0_reason_0 : decode cX0_reason 0 = .ok (.aload_n 3, 1) := dk_45 (dk_at dksX0_reason_0 0 rfl rfl)
theorem dX0_reason_1 : decode cX0_reason 1 = .ok (.iconst 0, 1) := dk_3 (dk_at dksX0_reason_0 1 rfl rfl)
theorem dX0_reason_2 : decode cX0_reason 2 = .ok (.aload_n 0, 1) := dk_42 (dk_at dksX0_reason_0 2 rfl rfl)
theorem dX0_reason_3 : decode cX0_reason 3 = .ok (.iload_n 1, 1) := dk_27 (dk_at dksX0_reason_0 3 rfl rfl)
theorem dX0_reason_4 : decode cX0_reason 4 = .ok (.iload_n 2, 1) := dk_28 (dk_at dksX0_reason_0 4 rfl rfl)
theorem dX0_reason_5 : decode cX0_reason 5 = .ok (.invokevirtual 99, 3) := dk_182 0 99 (dk_at dksX0_reason_0 5 rfl rfl)
theorem dX0_reason_8 : decode cX0_reason 8 = .ok (.i2l, 1) := dk_133 (dk_at dksX0_reason_0 8 rfl rfl)
theorem dX0_reason_9 : decode cX0_reason 9 = .ok (.lastore, 1) := dk_80 (dk_at dksX0_reason_0 9 rfl rfl)
theorem dX0_reason_10 : decode cX0_reason 10 = .ok (.goto 7, 3) := dk_167 0 7 (dk_at dksX0_reason_0 10 rfl rfl)
theorem dX0_reason_13 : decode cX0_reason 13 = .ok (.astore 4, 2) := dk_58 4 (dk_at dksX0_reason_0 13 rfl rfl)
theorem dX0_reason_15 : decode cX0_reason 15 = .ok (.iconst 1, 1) := dk_4 (dk_at dksX0_reason_0 15 rfl rfl)
theorem dX0_reason_16 : decode cX0_reason 16 = .ok (.ireturn, 1) := dk_172 (dk_at dksX0_reason_0 16 rfl rfl)
theorem dX0_reason_17 : decode cX0_reason 17 = .ok (.iconst 0, 1) := dk_3 (dk_at dksX0_reason_0 17 rfl rfl)
theorem dX0_reason_18 : decode cX0_reason 18 = .ok (.ireturn, 1) := dk_172 (dk_at dksX0_reason_0 18 rfl rfl)
abbrev cX0_tell : ByteArray := method_29_code
def yX0_tell : MethodName := ⟨RX0, "tell", "(LWordCache;I[J)I"⟩
def dkwX0_tell_0 : List UInt8 := [44, 3, 42, 27, 182, 0, 103, 133, 80, 167, 0, 6, 78, 4, 172, 3, 172]
abbrev dktX0_tell_0 : List UInt8 := dkwX0_tell_0 ++ []
theorem dksX0_tell_0 : cX0_tell.data.toList.drop 0 = dktX0_tell_0 := by decide +kernel
theorem dX0_tell_0 : decode cX0_tell 0 = .ok (.aload_n 2, 1) := dk_44 (dk_at dksX0_tell_0 0 rfl rfl)
theorem dX0_tell_1 : decode cX0_tell 1 = .ok (.iconst 0, 1) := dk_3 (dk_at dksX0_tell_0 1 rfl rfl)
theorem dX0_tell_2 : decode cX0_tell 2 = .ok (.aload_n 0, 1) := dk_42 (dk_at dksX0_tell_0 2 rfl rfl)
theorem dX0_tell_3 : decode cX0_tell 3 = .ok (.iload_n 1, 1) := dk_27 (dk_at dksX0_tell_0 3 rfl rfl)
theorem dX0_tell_4 : decode cX0_tell 4 = .ok (.invokevirtual 103, 3) := dk_182 0 103 (dk_at dksX0_tell_0 4 rfl rfl)
theorem dX0_tell_7 : decode cX0_tell 7 = .ok (.i2l, 1) := dk_133 (dk_at dksX0_tell_0 7 rfl rfl)
theorem dX0_tell_8 : decode cX0_tell 8 = .ok (.lastore, 1) := dk_80 (dk_at dksX0_tell_0 8 rfl rfl)
theorem dX0_tell_9 : decode cX0_tell 9 = .ok (.goto 6, 3) := dk_167 0 6 (dk_at dksX0_tell_0 9 rfl rfl)
theorem dX0_tell_12 : decode cX0_tell 12 = .ok (.astore_n 3, 1) := dk_78 (dk_at dksX0_tell_0 12 rfl rfl)
theorem dX0_tell_13 : decode cX0_tell 13 = .ok (.iconst 1, 1) := dk_4 (dk_at dksX0_tell_0 13 rfl rfl)
theorem dX0_tell_14 : decode cX0_tell 14 = .ok (.ireturn, 1) := dk_172 (dk_at dksX0_tell_0 14 rfl rfl)
theorem dX0_tell_15 : decode cX0_tell 15 = .ok (.iconst 0, 1) := dk_3 (dk_at dksX0_tell_0 15 rfl rfl)
theorem dX0_tell_16 : decode cX0_tell 16 = .ok (.ireturn, 1) := dk_172 (dk_at dksX0_tell_0 16 rfl rfl)
abbrev cX0_character : ByteArray := method_30_code
def yX0_character : MethodName := ⟨RX0, "character", "(LWordCache;I[J)I"⟩
def dkwX0_character_0 : List UInt8 := [44, 3, 42, 27, 182, 0, 106, 133, 80, 167, 0, 6, 78, 4, 172, 3, 172]
abbrev dktX0_character_0 : List UInt8 := dkwX0_character_0 ++ []
theorem dksX0_character_0 : cX0_character.data.toList.drop 0 = dktX0_character_0 := by decide +kernel
theorem dX0_character_0 : decode cX0_character 0 = .ok (.aload_n 2, 1) := dk_44 (dk_at dksX0_character_0 0 rfl rfl)
theorem dX0_character_1 : decode cX0_character 1 = .ok (.iconst 0, 1) := dk_3 (dk_at dksX0_character_0 1 rfl rfl)
theorem dX0_character_2 : decode cX0_character 2 = .ok (.aload_n 0, 1) := dk_42 (dk_at dksX0_character_0 2 rfl rfl)
theorem dX0_character_3 : decode cX0_character 3 = .ok (.iload_n 1, 1) := dk_27 (dk_at dksX0_character_0 3 rfl rfl)
theorem dX0_character_4 : decode cX0_character 4 = .ok (.invokevirtual 106, 3) := dk_182 0 106 (dk_at dksX0_character_0 4 rfl rfl)
theorem dX0_character_7 : decode cX0_character 7 = .ok (.i2l, 1) := dk_133 (dk_at dksX0_character_0 7 rfl rfl)
theorem dX0_character_8 : decode cX0_character 8 = .ok (.lastore, 1) := dk_80 (dk_at dksX0_character_0 8 rfl rfl)
theorem dX0_character_9 : decode cX0_character 9 = .ok (.goto 6, 3) := dk_167 0 6 (dk_at dksX0_character_0 9 rfl rfl)
theorem dX0_character_12 : decode cX0_character 12 = .ok (.astore_n 3, 1) := dk_78 (dk_at dksX0_character_0 12 rfl rfl)
theorem dX0_character_13 : decode cX0_character 13 = .ok (.iconst 1, 1) := dk_4 (dk_at dksX0_character_0 13 rfl rfl)
theorem dX0_character_14 : decode cX0_character 14 = .ok (.ireturn, 1) := dk_172 (dk_at dksX0_character_0 14 rfl rfl)
theorem dX0_character_15 : decode cX0_character 15 = .ok (.iconst 0, 1) := dk_3 (dk_at dksX0_character_0 15 rfl rfl)
theorem dX0_character_16 : decode cX0_character 16 = .ok (.ireturn, 1) := dk_172 (dk_at dksX0_character_0 16 rfl rfl)
abbrev cX0_hitShare : ByteArray := method_31_code
def yX0_hitShare : MethodName := ⟨RX0, "hitShare", "(LWordCache;[D)I"⟩
def dkwX0_hitShare_0 : List UInt8 := [43, 3, 42, 182, 0, 110, 141, 82, 167, 0, 6, 77, 4, 172, 3, 172]
abbrev dktX0_hitShare_0 : List UInt8 := dkwX0_hitShare_0 ++ []
theorem dksX0_hitShare_0 : cX0_hitShare.data.toList.drop 0 = dktX0_hitShare_0 := by decide +kernel
theorem dX0_hitShare_0 : decode cX0_hitShare 0 = .ok (.aload_n 1, 1) := dk_43 (dk_at dksX0_hitShare_0 0 rfl rfl)
theorem dX0_hitShare_1 : decode cX0_hitShare 1 = .ok (.iconst 0, 1) := dk_3 (dk_at dksX0_hitShare_0 1 rfl rfl)
theorem dX0_hitShare_2 : decode cX0_hitShare 2 = .ok (.aload_n 0, 1) := dk_42 (dk_at dksX0_hitShare_0 2 rfl rfl)
theorem dX0_hitShare_3 : decode cX0_hitShare 3 = .ok (.invokevirtual 110, 3) := dk_182 0 110 (dk_at dksX0_hitShare_0 3 rfl rfl)
theorem dX0_hitShare_6 : decode cX0_hitShare 6 = .ok (.f2d, 1) := dk_141 (dk_at dksX0_hitShare_0 6 rfl rfl)
theorem dX0_hitShare_7 : decode cX0_hitShare 7 = .ok (.dastore, 1) := dk_82 (dk_at dksX0_hitShare_0 7 rfl rfl)
theorem dX0_hitShare_8 : decode cX0_hitShare 8 = .ok (.goto 6, 3) := dk_167 0 6 (dk_at dksX0_hitShare_0 8 rfl rfl)
theorem dX0_hitShare_11 : decode cX0_hitShare 11 = .ok (.astore_n 2, 1) := dk_77 (dk_at dksX0_hitShare_0 11 rfl rfl)
theorem dX0_hitShare_12 : decode cX0_hitShare 12 = .ok (.iconst 1, 1) := dk_4 (dk_at dksX0_hitShare_0 12 rfl rfl)
theorem dX0_hitShare_13 : decode cX0_hitShare 13 = .ok (.ireturn, 1) := dk_172 (dk_at dksX0_hitShare_0 13 rfl rfl)
theorem dX0_hitShare_14 : decode cX0_hitShare 14 = .ok (.iconst 0, 1) := dk_3 (dk_at dksX0_hitShare_0 14 rfl rfl)
theorem dX0_hitShare_15 : decode cX0_hitShare 15 = .ok (.ireturn, 1) := dk_172 (dk_at dksX0_hitShare_0 15 rfl rfl)
abbrev cX0_account : ByteArray := method_32_code
def yX0_account : MethodName := ⟨RX0, "account", "(LWordCache;I[J)I"⟩
def dkwX0_account_0 : List UInt8 := [44, 3, 42, 27, 182, 0, 116, 133, 80, 167, 0, 6, 78, 4, 172, 3, 172]
abbrev dktX0_account_0 : List UInt8 := dkwX0_account_0 ++ []
theorem dksX0_account_0 : cX0_account.data.toList.drop 0 = dktX0_account_0 := by decide +kernel
theorem dX0_account_0 : decode cX0_account 0 = .ok (.aload_n 2, 1) := dk_44 (dk_at dksX0_account_0 0 rfl rfl)
theorem dX0_account_1 : decode cX0_account 1 = .ok (.iconst 0, 1) := dk_3 (dk_at dksX0_account_0 1 rfl rfl)
theorem dX0_account_2 : decode cX0_account 2 = .ok (.aload_n 0, 1) := dk_42 (dk_at dksX0_account_0 2 rfl rfl)
theorem dX0_account_3 : decode cX0_account 3 = .ok (.iload_n 1, 1) := dk_27 (dk_at dksX0_account_0 3 rfl rfl)
theorem dX0_account_4 : decode cX0_account 4 = .ok (.invokevirtual 116, 3) := dk_182 0 116 (dk_at dksX0_account_0 4 rfl rfl)
theorem dX0_account_7 : decode cX0_account 7 = .ok (.i2l, 1) := dk_133 (dk_at dksX0_account_0 7 rfl rfl)
theorem dX0_account_8 : decode cX0_account 8 = .ok (.lastore, 1) := dk_80 (dk_at dksX0_account_0 8 rfl rfl)
theorem dX0_account_9 : decode cX0_account 9 = .ok (.goto 6, 3) := dk_167 0 6 (dk_at dksX0_account_0 9 rfl rfl)
theorem dX0_account_12 : decode cX0_account 12 = .ok (.astore_n 3, 1) := dk_78 (dk_at dksX0_account_0 12 rfl rfl)
theorem dX0_account_13 : decode cX0_account 13 = .ok (.iconst 1, 1) := dk_4 (dk_at dksX0_account_0 13 rfl rfl)
theorem dX0_account_14 : decode cX0_account 14 = .ok (.ireturn, 1) := dk_172 (dk_at dksX0_account_0 14 rfl rfl)
theorem dX0_account_15 : decode cX0_account 15 = .ok (.iconst 0, 1) := dk_3 (dk_at dksX0_account_0 15 rfl rfl)
theorem dX0_account_16 : decode cX0_account 16 = .ok (.ireturn, 1) := dk_172 (dk_at dksX0_account_0 16 rfl rfl)
abbrev cX0_undo : ByteArray := method_33_code
def yX0_undo : MethodName := ⟨RX0, "undo", "(LWordCache;[J)I"⟩
def dkwX0_undo_0 : List UInt8 := [43, 3, 42, 182, 0, 119, 133, 80, 167, 0, 6, 77, 4, 172, 3, 172]
abbrev dktX0_undo_0 : List UInt8 := dkwX0_undo_0 ++ []
theorem dksX0_undo_0 : cX0_undo.data.toList.drop 0 = dktX0_undo_0 := by decide +kernel
theorem dX0_undo_0 : decode cX0_undo 0 = .ok (.aload_n 1, 1) := dk_43 (dk_at dksX0_undo_0 0 rfl rfl)
theorem dX0_undo_1 : decode cX0_undo 1 = .ok (.iconst 0, 1) := dk_3 (dk_at dksX0_undo_0 1 rfl rfl)
theorem dX0_undo_2 : decode cX0_undo 2 = .ok (.aload_n 0, 1) := dk_42 (dk_at dksX0_undo_0 2 rfl rfl)
theorem dX0_undo_3 : decode cX0_undo 3 = .ok (.invokevirtual 119, 3) := dk_182 0 119 (dk_at dksX0_undo_0 3 rfl rfl)
theorem dX0_undo_6 : decode cX0_undo 6 = .ok (.i2l, 1) := dk_133 (dk_at dksX0_undo_0 6 rfl rfl)
theorem dX0_undo_7 : decode cX0_undo 7 = .ok (.lastore, 1) := dk_80 (dk_at dksX0_undo_0 7 rfl rfl)
theorem dX0_undo_8 : decode cX0_undo 8 = .ok (.goto 6, 3) := dk_167 0 6 (dk_at dksX0_undo_0 8 rfl rfl)
theorem dX0_undo_11 : decode cX0_undo 11 = .ok (.astore_n 2, 1) := dk_77 (dk_at dksX0_undo_0 11 rfl rfl)
theorem dX0_undo_12 : decode cX0_undo 12 = .ok (.iconst 1, 1) := dk_4 (dk_at dksX0_undo_0 12 rfl rfl)
theorem dX0_undo_13 : decode cX0_undo 13 = .ok (.ireturn, 1) := dk_172 (dk_at dksX0_undo_0 13 rfl rfl)
theorem dX0_undo_14 : decode cX0_undo 14 = .ok (.iconst 0, 1) := dk_3 (dk_at dksX0_undo_0 14 rfl rfl)
theorem dX0_undo_15 : decode cX0_undo 15 = .ok (.ireturn, 1) := dk_172 (dk_at dksX0_undo_0 15 rfl rfl)
abbrev cX0_restore : ByteArray := method_34_code
def yX0_restore : MethodName := ⟨RX0, "restore", "(LWordCache;[J)I"⟩
def dkwX0_restore_0 : List UInt8 := [43, 3, 42, 182, 0, 122, 133, 80, 167, 0, 6, 77, 4, 172, 3, 172]
abbrev dktX0_restore_0 : List UInt8 := dkwX0_restore_0 ++ []
theorem dksX0_restore_0 : cX0_restore.data.toList.drop 0 = dktX0_restore_0 := by decide +kernel
theorem dX0_restore_0 : decode cX0_restore 0 = .ok (.aload_n 1, 1) := dk_43 (dk_at dksX0_restore_0 0 rfl rfl)
theorem dX0_restore_1 : decode cX0_restore 1 = .ok (.iconst 0, 1) := dk_3 (dk_at dksX0_restore_0 1 rfl rfl)
theorem dX0_restore_2 : decode cX0_restore 2 = .ok (.aload_n 0, 1) := dk_42 (dk_at dksX0_restore_0 2 rfl rfl)
theorem dX0_restore_3 : decode cX0_restore 3 = .ok (.invokevirtual 122, 3) := dk_182 0 122 (dk_at dksX0_restore_0 3 rfl rfl)
theorem dX0_restore_6 : decode cX0_restore 6 = .ok (.i2l, 1) := dk_133 (dk_at dksX0_restore_0 6 rfl rfl)
theorem dX0_restore_7 : decode cX0_restore 7 = .ok (.lastore, 1) := dk_80 (dk_at dksX0_restore_0 7 rfl rfl)
theorem dX0_restore_8 : decode cX0_restore 8 = .ok (.goto 6, 3) := dk_167 0 6 (dk_at dksX0_restore_0 8 rfl rfl)
theorem dX0_restore_11 : decode cX0_restore 11 = .ok (.astore_n 2, 1) := dk_77 (dk_at dksX0_restore_0 11 rfl rfl)
theorem dX0_restore_12 : decode cX0_restore 12 = .ok (.iconst 1, 1) := dk_4 (dk_at dksX0_restore_0 12 rfl rfl)
theorem dX0_restore_13 : decode cX0_restore 13 = .ok (.ireturn, 1) := dk_172 (dk_at dksX0_restore_0 13 rfl rfl)
theorem dX0_restore_14 : decode cX0_restore 14 = .ok (.iconst 0, 1) := dk_3 (dk_at dksX0_restore_0 14 rfl rfl)
theorem dX0_restore_15 : decode cX0_restore 15 = .ok (.ireturn, 1) := dk_172 (dk_at dksX0_restore_0 15 rfl rfl)
abbrev cL_law : ByteArray := code
def dkwL_law_87 : List UInt8 := [153, 0, 5, 3, 172, 167, 0, 3, 132, 5, 4, 167, 247, 157, 4, 172]
abbrev dktL_law_87 : List UInt8 := dkwL_law_87 ++ []
def dkwL_law_86 : List UInt8 := [182, 0, 135, 21, 6, 159, 0, 5, 3, 172, 21, 6, 154, 0, 15, 45, 3, 47, 21, 7, 133, 148]
abbrev dktL_law_86 : List UInt8 := dkwL_law_86 ++ dktL_law_87
def dkwL_law_85 : List UInt8 := [182, 0, 252, 159, 0, 49, 3, 172, 43, 45, 184, 0, 253, 54, 6, 44, 182, 0, 255, 54, 7, 44]
abbrev dktL_law_85 : List UInt8 := dkwL_law_85 ++ dktL_law_86
def dkwL_law_84 : List UInt8 := [154, 0, 15, 45, 3, 47, 21, 7, 133, 148, 153, 0, 5, 3, 172, 167, 0, 60, 43, 182, 0, 249, 44]
abbrev dktL_law_84 : List UInt8 := dkwL_law_84 ++ dktL_law_85
def dkwL_law_83 : List UInt8 := [184, 0, 246, 54, 6, 44, 182, 0, 248, 54, 7, 44, 182, 0, 135, 21, 6, 159, 0, 5, 3, 172, 21, 6]
abbrev dktL_law_83 : List UInt8 := dkwL_law_83 ++ dktL_law_84
def dkwL_law_82 : List UInt8 := [153, 0, 5, 3, 172, 167, 0, 117, 43, 182, 0, 241, 44, 182, 0, 245, 159, 0, 106, 3, 172, 43, 45]
abbrev dktL_law_82 : List UInt8 := dkwL_law_82 ++ dktL_law_83
def dkwL_law_81 : List UInt8 := [182, 0, 135, 21, 6, 159, 0, 5, 3, 172, 21, 6, 154, 0, 15, 45, 3, 47, 21, 7, 133, 148]
abbrev dktL_law_81 : List UInt8 := dkwL_law_81 ++ dktL_law_82
def dkwL_law_80 : List UInt8 := [21, 5, 4, 96, 46, 45, 184, 0, 238, 54, 6, 44, 42, 21, 5, 4, 96, 46, 182, 0, 240, 54, 7, 44]
abbrev dktL_law_80 : List UInt8 := dkwL_law_80 ++ dktL_law_81
def dkwL_law_79 : List UInt8 := [24, 6, 24, 6, 151, 153, 0, 11, 24, 8, 24, 8, 151, 154, 0, 5, 3, 172, 167, 0, 173, 43, 42]
abbrev dktL_law_79 : List UInt8 := dkwL_law_79 ++ dktL_law_80
def dkwL_law_78 : List UInt8 := [172, 167, 0, 214, 43, 182, 0, 233, 57, 6, 44, 182, 0, 237, 57, 8, 24, 6, 24, 8, 151, 153, 0, 21]
abbrev dktL_law_78 : List UInt8 := dkwL_law_78 ++ dktL_law_79
def dkwL_law_77 : List UInt8 := [153, 0, 25, 25, 4, 3, 49, 25, 4, 3, 49, 151, 153, 0, 11, 23, 7, 23, 7, 149, 154, 0, 5, 3]
abbrev dktL_law_77 : List UInt8 := dkwL_law_77 ++ dktL_law_78
def dkwL_law_76 : List UInt8 := [182, 0, 135, 21, 6, 159, 0, 5, 3, 172, 21, 6, 154, 0, 36, 25, 4, 3, 49, 23, 7, 141, 151]
abbrev dktL_law_76 : List UInt8 := dkwL_law_76 ++ dktL_law_77
def dkwL_law_75 : List UInt8 := [153, 0, 5, 3, 172, 167, 1, 24, 43, 25, 4, 184, 0, 229, 54, 6, 44, 182, 0, 232, 56, 7, 44]
abbrev dktL_law_75 : List UInt8 := dkwL_law_75 ++ dktL_law_76
def dkwL_law_74 : List UInt8 := [182, 0, 135, 21, 6, 159, 0, 5, 3, 172, 21, 6, 154, 0, 15, 45, 3, 47, 21, 7, 133, 148]
abbrev dktL_law_74 : List UInt8 := dkwL_law_74 ++ dktL_law_75
def dkwL_law_73 : List UInt8 := [21, 5, 4, 96, 46, 45, 184, 0, 226, 54, 6, 44, 42, 21, 5, 4, 96, 46, 182, 0, 228, 54, 7, 44]
abbrev dktL_law_73 : List UInt8 := dkwL_law_73 ++ dktL_law_74
def dkwL_law_72 : List UInt8 := [172, 21, 6, 154, 0, 15, 45, 3, 47, 21, 7, 133, 148, 153, 0, 5, 3, 172, 167, 1, 80, 43, 42]
abbrev dktL_law_72 : List UInt8 := dkwL_law_72 ++ dktL_law_73
def dkwL_law_71 : List UInt8 := [54, 6, 44, 42, 21, 5, 4, 96, 46, 182, 0, 225, 54, 7, 44, 182, 0, 135, 21, 6, 159, 0, 5, 3]
abbrev dktL_law_71 : List UInt8 := dkwL_law_71 ++ dktL_law_72
def dkwL_law_70 : List UInt8 := [21, 7, 133, 148, 153, 0, 5, 3, 172, 167, 1, 136, 43, 42, 21, 5, 4, 96, 46, 45, 184, 0, 223]
abbrev dktL_law_70 : List UInt8 := dkwL_law_70 ++ dktL_law_71
def dkwL_law_69 : List UInt8 := [182, 0, 222, 54, 7, 44, 182, 0, 135, 21, 6, 159, 0, 5, 3, 172, 21, 6, 154, 0, 15, 45, 3, 47]
abbrev dktL_law_69 : List UInt8 := dkwL_law_69 ++ dktL_law_70
def dkwL_law_68 : List UInt8 := [96, 46, 153, 0, 7, 4, 167, 0, 4, 3, 42, 21, 5, 5, 96, 46, 153, 0, 7, 4, 167, 0, 4, 3]
abbrev dktL_law_68 : List UInt8 := dkwL_law_68 ++ dktL_law_69
def dkwL_law_67 : List UInt8 := [21, 5, 5, 96, 46, 153, 0, 7, 4, 167, 0, 4, 3, 45, 184, 0, 219, 54, 6, 44, 42, 21, 5, 4]
abbrev dktL_law_67 : List UInt8 := dkwL_law_67 ++ dktL_law_68
def dkwL_law_66 : List UInt8 := [153, 0, 5, 3, 172, 167, 1, 236, 43, 42, 21, 5, 4, 96, 46, 153, 0, 7, 4, 167, 0, 4, 3, 42]
abbrev dktL_law_66 : List UInt8 := dkwL_law_66 ++ dktL_law_67
def dkwL_law_65 : List UInt8 := [182, 0, 135, 21, 6, 159, 0, 5, 3, 172, 21, 6, 154, 0, 15, 45, 3, 47, 21, 7, 133, 148]
abbrev dktL_law_65 : List UInt8 := dkwL_law_65 ++ dktL_law_66
def dkwL_law_64 : List UInt8 := [148, 153, 0, 5, 3, 172, 167, 2, 24, 43, 45, 184, 0, 216, 54, 6, 44, 182, 0, 218, 54, 7, 44]
abbrev dktL_law_64 : List UInt8 := dkwL_law_64 ++ dktL_law_65
def dkwL_law_63 : List UInt8 := [54, 7, 44, 182, 0, 135, 21, 6, 159, 0, 5, 3, 172, 21, 6, 154, 0, 15, 45, 3, 47, 21, 7, 133]
abbrev dktL_law_63 : List UInt8 := dkwL_law_63 ++ dktL_law_64
def dkwL_law_62 : List UInt8 := [47, 21, 7, 133, 148, 153, 0, 5, 3, 172, 167, 2, 68, 43, 45, 184, 0, 213, 54, 6, 44, 182, 0, 215]
abbrev dktL_law_62 : List UInt8 := dkwL_law_62 ++ dktL_law_63
def dkwL_law_61 : List UInt8 := [146, 182, 0, 212, 54, 7, 44, 182, 0, 135, 21, 6, 159, 0, 5, 3, 172, 21, 6, 154, 0, 15, 45, 3]
abbrev dktL_law_61 : List UInt8 := dkwL_law_61 ++ dktL_law_62
def dkwL_law_60 : List UInt8 := [167, 2, 126, 43, 42, 21, 5, 4, 96, 46, 146, 45, 184, 0, 209, 54, 6, 44, 42, 21, 5, 4, 96, 46]
abbrev dktL_law_60 : List UInt8 := dkwL_law_60 ++ dktL_law_61
def dkwL_law_59 : List UInt8 := [21, 6, 159, 0, 5, 3, 172, 21, 6, 154, 0, 15, 45, 3, 47, 21, 7, 133, 148, 153, 0, 5, 3, 172]
abbrev dktL_law_59 : List UInt8 := dkwL_law_59 ++ dktL_law_60
def dkwL_law_58 : List UInt8 := [46, 45, 184, 0, 206, 54, 6, 44, 42, 21, 5, 4, 96, 46, 182, 0, 208, 54, 7, 44, 182, 0, 135]
abbrev dktL_law_58 : List UInt8 := dkwL_law_58 ++ dktL_law_59
def dkwL_law_57 : List UInt8 := [154, 0, 15, 45, 3, 47, 21, 7, 133, 148, 153, 0, 5, 3, 172, 167, 2, 182, 43, 42, 21, 5, 4, 96]
abbrev dktL_law_57 : List UInt8 := dkwL_law_57 ++ dktL_law_58
def dkwL_law_56 : List UInt8 := [21, 5, 4, 96, 46, 182, 0, 205, 54, 7, 44, 182, 0, 135, 21, 6, 159, 0, 5, 3, 172, 21, 6]
abbrev dktL_law_56 : List UInt8 := dkwL_law_56 ++ dktL_law_57
def dkwL_law_55 : List UInt8 := [153, 0, 5, 3, 172, 167, 2, 238, 43, 42, 21, 5, 4, 96, 46, 45, 184, 0, 203, 54, 6, 44, 42]
abbrev dktL_law_55 : List UInt8 := dkwL_law_55 ++ dktL_law_56
def dkwL_law_54 : List UInt8 := [182, 0, 135, 21, 6, 159, 0, 5, 3, 172, 21, 6, 154, 0, 15, 45, 3, 47, 21, 7, 133, 148]
abbrev dktL_law_54 : List UInt8 := dkwL_law_54 ++ dktL_law_55
def dkwL_law_53 : List UInt8 := [21, 5, 4, 96, 46, 45, 184, 0, 200, 54, 6, 44, 42, 21, 5, 4, 96, 46, 182, 0, 202, 54, 7, 44]
abbrev dktL_law_53 : List UInt8 := dkwL_law_53 ++ dktL_law_54
def dkwL_law_52 : List UInt8 := [172, 21, 6, 154, 0, 15, 45, 3, 47, 21, 7, 133, 148, 153, 0, 5, 3, 172, 167, 3, 38, 43, 42]
abbrev dktL_law_52 : List UInt8 := dkwL_law_52 ++ dktL_law_53
def dkwL_law_51 : List UInt8 := [54, 6, 44, 42, 21, 5, 4, 96, 46, 182, 0, 199, 54, 7, 44, 182, 0, 135, 21, 6, 159, 0, 5, 3]
abbrev dktL_law_51 : List UInt8 := dkwL_law_51 ++ dktL_law_52
def dkwL_law_50 : List UInt8 := [21, 7, 133, 148, 153, 0, 5, 3, 172, 167, 3, 94, 43, 42, 21, 5, 4, 96, 46, 45, 184, 0, 197]
abbrev dktL_law_50 : List UInt8 := dkwL_law_50 ++ dktL_law_51
def dkwL_law_49 : List UInt8 := [182, 0, 196, 54, 7, 44, 182, 0, 135, 21, 6, 159, 0, 5, 3, 172, 21, 6, 154, 0, 15, 45, 3, 47]
abbrev dktL_law_49 : List UInt8 := dkwL_law_49 ++ dktL_law_50
def dkwL_law_48 : List UInt8 := [167, 3, 150, 43, 42, 21, 5, 4, 96, 46, 45, 184, 0, 194, 54, 6, 44, 42, 21, 5, 4, 96, 46]
abbrev dktL_law_48 : List UInt8 := dkwL_law_48 ++ dktL_law_49
def dkwL_law_47 : List UInt8 := [21, 6, 159, 0, 5, 3, 172, 21, 6, 154, 0, 15, 45, 3, 47, 21, 7, 133, 148, 153, 0, 5, 3, 172]
abbrev dktL_law_47 : List UInt8 := dkwL_law_47 ++ dktL_law_48
def dkwL_law_46 : List UInt8 := [46, 45, 184, 0, 191, 54, 6, 44, 42, 21, 5, 4, 96, 46, 182, 0, 193, 54, 7, 44, 182, 0, 135]
abbrev dktL_law_46 : List UInt8 := dkwL_law_46 ++ dktL_law_47
def dkwL_law_45 : List UInt8 := [154, 0, 15, 45, 3, 47, 21, 7, 133, 148, 153, 0, 5, 3, 172, 167, 3, 206, 43, 42, 21, 5, 4, 96]
abbrev dktL_law_45 : List UInt8 := dkwL_law_45 ++ dktL_law_46
def dkwL_law_44 : List UInt8 := [42, 21, 5, 5, 96, 46, 182, 0, 190, 54, 7, 44, 182, 0, 135, 21, 6, 159, 0, 5, 3, 172, 21, 6]
abbrev dktL_law_44 : List UInt8 := dkwL_law_44 ++ dktL_law_45
def dkwL_law_43 : List UInt8 := [21, 5, 4, 96, 46, 42, 21, 5, 5, 96, 46, 45, 184, 0, 188, 54, 6, 44, 42, 21, 5, 4, 96, 46]
abbrev dktL_law_43 : List UInt8 := dkwL_law_43 ++ dktL_law_44
def dkwL_law_42 : List UInt8 := [172, 21, 6, 154, 0, 15, 45, 3, 47, 21, 7, 133, 148, 153, 0, 5, 3, 172, 167, 4, 18, 43, 42]
abbrev dktL_law_42 : List UInt8 := dkwL_law_42 ++ dktL_law_43
def dkwL_law_41 : List UInt8 := [54, 6, 44, 42, 21, 5, 4, 96, 46, 182, 0, 187, 54, 7, 44, 182, 0, 135, 21, 6, 159, 0, 5, 3]
abbrev dktL_law_41 : List UInt8 := dkwL_law_41 ++ dktL_law_42
def dkwL_law_40 : List UInt8 := [21, 7, 133, 148, 153, 0, 5, 3, 172, 167, 4, 74, 43, 42, 21, 5, 4, 96, 46, 45, 184, 0, 185]
abbrev dktL_law_40 : List UInt8 := dkwL_law_40 ++ dktL_law_41
def dkwL_law_39 : List UInt8 := [182, 0, 184, 54, 7, 44, 182, 0, 135, 21, 6, 159, 0, 5, 3, 172, 21, 6, 154, 0, 15, 45, 3, 47]
abbrev dktL_law_39 : List UInt8 := dkwL_law_39 ++ dktL_law_40
def dkwL_law_38 : List UInt8 := [167, 4, 130, 43, 42, 21, 5, 4, 96, 46, 45, 184, 0, 182, 54, 6, 44, 42, 21, 5, 4, 96, 46]
abbrev dktL_law_38 : List UInt8 := dkwL_law_38 ++ dktL_law_39
def dkwL_law_37 : List UInt8 := [21, 6, 159, 0, 5, 3, 172, 21, 6, 154, 0, 15, 45, 3, 47, 21, 7, 133, 148, 153, 0, 5, 3, 172]
abbrev dktL_law_37 : List UInt8 := dkwL_law_37 ++ dktL_law_38
def dkwL_law_36 : List UInt8 := [96, 46, 42, 21, 5, 5, 96, 46, 42, 21, 5, 6, 96, 46, 182, 0, 181, 54, 7, 44, 182, 0, 135]
abbrev dktL_law_36 : List UInt8 := dkwL_law_36 ++ dktL_law_37
def dkwL_law_35 : List UInt8 := [46, 42, 21, 5, 5, 96, 46, 42, 21, 5, 6, 96, 46, 45, 184, 0, 178, 54, 6, 44, 42, 21, 5, 4]
abbrev dktL_law_35 : List UInt8 := dkwL_law_35 ++ dktL_law_36
def dkwL_law_34 : List UInt8 := [154, 0, 15, 45, 3, 47, 21, 7, 133, 148, 153, 0, 5, 3, 172, 167, 4, 210, 43, 42, 21, 5, 4, 96]
abbrev dktL_law_34 : List UInt8 := dkwL_law_34 ++ dktL_law_35
def dkwL_law_33 : List UInt8 := [21, 5, 4, 96, 46, 182, 0, 177, 54, 7, 44, 182, 0, 135, 21, 6, 159, 0, 5, 3, 172, 21, 6]
abbrev dktL_law_33 : List UInt8 := dkwL_law_33 ++ dktL_law_34
def dkwL_law_32 : List UInt8 := [153, 0, 5, 3, 172, 167, 5, 10, 43, 42, 21, 5, 4, 96, 46, 45, 184, 0, 175, 54, 6, 44, 42]
abbrev dktL_law_32 : List UInt8 := dkwL_law_32 ++ dktL_law_33
def dkwL_law_31 : List UInt8 := [182, 0, 135, 21, 6, 159, 0, 5, 3, 172, 21, 6, 154, 0, 15, 45, 3, 47, 21, 7, 133, 148]
abbrev dktL_law_31 : List UInt8 := dkwL_law_31 ++ dktL_law_32
def dkwL_law_30 : List UInt8 := [21, 5, 4, 96, 46, 45, 184, 0, 172, 54, 6, 44, 42, 21, 5, 4, 96, 46, 182, 0, 174, 54, 7, 44]
abbrev dktL_law_30 : List UInt8 := dkwL_law_30 ++ dktL_law_31
def dkwL_law_29 : List UInt8 := [172, 21, 6, 154, 0, 15, 45, 3, 47, 21, 7, 133, 148, 153, 0, 5, 3, 172, 167, 5, 66, 43, 42]
abbrev dktL_law_29 : List UInt8 := dkwL_law_29 ++ dktL_law_30
def dkwL_law_28 : List UInt8 := [54, 6, 44, 42, 21, 5, 4, 96, 46, 182, 0, 171, 54, 7, 44, 182, 0, 135, 21, 6, 159, 0, 5, 3]
abbrev dktL_law_28 : List UInt8 := dkwL_law_28 ++ dktL_law_29
def dkwL_law_27 : List UInt8 := [167, 0, 4, 3, 182, 0, 168, 159, 5, 124, 3, 172, 43, 42, 21, 5, 4, 96, 46, 45, 184, 0, 169]
abbrev dktL_law_27 : List UInt8 := dkwL_law_27 ++ dktL_law_28
def dkwL_law_26 : List UInt8 := [46, 153, 0, 7, 4, 167, 0, 4, 3, 182, 0, 164, 44, 42, 21, 5, 4, 96, 46, 153, 0, 7, 4]
abbrev dktL_law_26 : List UInt8 := dkwL_law_26 ++ dktL_law_27
def dkwL_law_25 : List UInt8 := [154, 0, 15, 45, 3, 47, 21, 7, 133, 148, 153, 0, 5, 3, 172, 167, 5, 163, 43, 42, 21, 5, 4, 96]
abbrev dktL_law_25 : List UInt8 := dkwL_law_25 ++ dktL_law_26
def dkwL_law_24 : List UInt8 := [21, 5, 4, 96, 46, 182, 0, 163, 54, 7, 44, 182, 0, 135, 21, 6, 159, 0, 5, 3, 172, 21, 6]
abbrev dktL_law_24 : List UInt8 := dkwL_law_24 ++ dktL_law_25
def dkwL_law_23 : List UInt8 := [153, 0, 5, 3, 172, 167, 5, 219, 43, 42, 21, 5, 4, 96, 46, 45, 184, 0, 161, 54, 6, 44, 42]
abbrev dktL_law_23 : List UInt8 := dkwL_law_23 ++ dktL_law_24
def dkwL_law_22 : List UInt8 := [182, 0, 135, 21, 6, 159, 0, 5, 3, 172, 21, 6, 154, 0, 15, 45, 3, 47, 21, 7, 133, 148]
abbrev dktL_law_22 : List UInt8 := dkwL_law_22 ++ dktL_law_23
def dkwL_law_21 : List UInt8 := [184, 0, 158, 54, 6, 44, 42, 21, 5, 4, 96, 46, 42, 21, 5, 5, 96, 46, 182, 0, 160, 54, 7, 44]
abbrev dktL_law_21 : List UInt8 := dkwL_law_21 ++ dktL_law_22
def dkwL_law_20 : List UInt8 := [148, 153, 0, 5, 3, 172, 167, 6, 31, 43, 42, 21, 5, 4, 96, 46, 42, 21, 5, 5, 96, 46, 45]
abbrev dktL_law_20 : List UInt8 := dkwL_law_20 ++ dktL_law_21
def dkwL_law_19 : List UInt8 := [54, 7, 44, 182, 0, 135, 21, 6, 159, 0, 5, 3, 172, 21, 6, 154, 0, 15, 45, 3, 47, 21, 7, 133]
abbrev dktL_law_19 : List UInt8 := dkwL_law_19 ++ dktL_law_20
def dkwL_law_18 : List UInt8 := [21, 7, 133, 148, 153, 0, 5, 3, 172, 167, 6, 75, 43, 45, 184, 0, 154, 54, 6, 44, 182, 0, 157]
abbrev dktL_law_18 : List UInt8 := dkwL_law_18 ++ dktL_law_19
def dkwL_law_17 : List UInt8 := [182, 0, 153, 54, 7, 44, 182, 0, 135, 21, 6, 159, 0, 5, 3, 172, 21, 6, 154, 0, 15, 45, 3, 47]
abbrev dktL_law_17 : List UInt8 := dkwL_law_17 ++ dktL_law_18
def dkwL_law_16 : List UInt8 := [167, 6, 131, 43, 42, 21, 5, 4, 96, 46, 45, 184, 0, 151, 54, 6, 44, 42, 21, 5, 4, 96, 46]
abbrev dktL_law_16 : List UInt8 := dkwL_law_16 ++ dktL_law_17
def dkwL_law_15 : List UInt8 := [21, 6, 159, 0, 5, 3, 172, 21, 6, 154, 0, 15, 45, 3, 47, 21, 7, 133, 148, 153, 0, 5, 3, 172]
abbrev dktL_law_15 : List UInt8 := dkwL_law_15 ++ dktL_law_16
def dkwL_law_14 : List UInt8 := [46, 45, 184, 0, 148, 54, 6, 44, 42, 21, 5, 4, 96, 46, 182, 0, 150, 54, 7, 44, 182, 0, 135]
abbrev dktL_law_14 : List UInt8 := dkwL_law_14 ++ dktL_law_15
def dkwL_law_13 : List UInt8 := [154, 0, 15, 45, 3, 47, 21, 7, 133, 148, 153, 0, 5, 3, 172, 167, 6, 187, 43, 42, 21, 5, 4, 96]
abbrev dktL_law_13 : List UInt8 := dkwL_law_13 ++ dktL_law_14
def dkwL_law_12 : List UInt8 := [21, 5, 4, 96, 46, 182, 0, 147, 54, 7, 44, 182, 0, 135, 21, 6, 159, 0, 5, 3, 172, 21, 6]
abbrev dktL_law_12 : List UInt8 := dkwL_law_12 ++ dktL_law_13
def dkwL_law_11 : List UInt8 := [153, 0, 5, 3, 172, 167, 6, 243, 43, 42, 21, 5, 4, 96, 46, 45, 184, 0, 145, 54, 6, 44, 42]
abbrev dktL_law_11 : List UInt8 := dkwL_law_11 ++ dktL_law_12
def dkwL_law_10 : List UInt8 := [182, 0, 135, 21, 6, 159, 0, 5, 3, 172, 21, 6, 154, 0, 15, 45, 3, 47, 21, 7, 133, 148]
abbrev dktL_law_10 : List UInt8 := dkwL_law_10 ++ dktL_law_11
def dkwL_law_9 : List UInt8 := [184, 0, 142, 54, 6, 44, 42, 21, 5, 4, 96, 46, 42, 21, 5, 5, 96, 46, 182, 0, 144, 54, 7, 44]
abbrev dktL_law_9 : List UInt8 := dkwL_law_9 ++ dktL_law_10
def dkwL_law_8 : List UInt8 := [153, 0, 5, 3, 172, 167, 7, 55, 43, 42, 21, 5, 4, 96, 46, 42, 21, 5, 5, 96, 46, 45]
abbrev dktL_law_8 : List UInt8 := dkwL_law_8 ++ dktL_law_9
def dkwL_law_7 : List UInt8 := [182, 0, 135, 21, 6, 159, 0, 5, 3, 172, 21, 6, 154, 0, 15, 45, 3, 47, 21, 7, 133, 148]
abbrev dktL_law_7 : List UInt8 := dkwL_law_7 ++ dktL_law_8
def dkwL_law_6 : List UInt8 := [184, 0, 138, 54, 6, 44, 42, 21, 5, 4, 96, 46, 42, 21, 5, 5, 96, 46, 182, 0, 141, 54, 7, 44]
abbrev dktL_law_6 : List UInt8 := dkwL_law_6 ++ dktL_law_7
def dkwL_law_5 : List UInt8 := [148, 153, 0, 5, 3, 172, 167, 7, 123, 43, 42, 21, 5, 4, 96, 46, 42, 21, 5, 5, 96, 46, 45]
abbrev dktL_law_5 : List UInt8 := dkwL_law_5 ++ dktL_law_6
def dkwL_law_4 : List UInt8 := [54, 7, 44, 182, 0, 135, 21, 6, 159, 0, 5, 3, 172, 21, 6, 154, 0, 15, 45, 3, 47, 21, 7, 133]
abbrev dktL_law_4 : List UInt8 := dkwL_law_4 ++ dktL_law_5
def dkwL_law_3 : List UInt8 := [43, 42, 21, 5, 4, 96, 46, 45, 184, 0, 129, 54, 6, 44, 42, 21, 5, 4, 96, 46, 182, 0, 134]
abbrev dktL_law_3 : List UInt8 := dkwL_law_3 ++ dktL_law_4
def dkwL_law_2 : List UInt8 := [170, 0, 0, 0, 0, 0, 8, 80, 0, 0, 0, 0, 0, 0, 0, 35, 0, 0, 0, 160, 0, 0, 0, 216, 0, 0, 1, 28, 0, 0, 1, 96, 0, 0, 1, 152, 0, 0, 1, 208, 0, 0, 2, 8, 0, 0, 2, 52, 0, 0, 2, 120, 0, 0, 2, 176, 0, 0, 2, 217, 0, 0, 3, 17, 0, 0, 3, 73, 0, 0, 3, 129, 0, 0, 3, 209, 0, 0, 4, 9, 0, 0, 4, 65, 0, 0, 4, 133, 0, 0, 4, 189, 0, 0, 4, 245, 0, 0, 5, 45, 0, 0, 5, 101, 0, 0, 5, 157, 0, 0, 5, 213, 0, 0, 6, 15, 0, 0, 6, 59, 0, 0, 6, 103, 0, 0, 6, 203, 0, 0, 7, 3, 0, 0, 7, 59, 0, 0, 7, 125, 0, 0, 7, 166, 0, 0, 7, 222, 0, 0, 7, 235, 0, 0, 8, 23, 0, 0, 8, 36]
abbrev dktL_law_2 : List UInt8 := dkwL_law_2 ++ dktL_law_3
def dkwL_law_1 : List UInt8 := [58, 4, 3, 54, 5, 21, 5, 42, 190, 7, 100, 163, 8, 96, 42, 21, 5, 46, 16, 63, 126]
abbrev dktL_law_1 : List UInt8 := dkwL_law_1 ++ dktL_law_2
def dkwL_law_0 : List UInt8 := [187, 0, 8, 89, 183, 0, 125, 76, 187, 0, 126, 89, 183, 0, 128, 77, 4, 188, 11, 78, 4, 188, 7]
abbrev dktL_law_0 : List UInt8 := dkwL_law_0 ++ dktL_law_1
theorem dksL_law_0 : cL_law.data.toList.drop 0 = dktL_law_0 := by decide +kernel
theorem dksL_law_1 : cL_law.data.toList.drop 23 = dktL_law_1 := dk_seg dksL_law_0 23 rfl rfl
theorem dksL_law_2 : cL_law.data.toList.drop 44 = dktL_law_2 := dk_seg dksL_law_1 21 rfl rfl
theorem dksL_law_3 : cL_law.data.toList.drop 204 = dktL_law_3 := dk_seg dksL_law_2 160 rfl rfl
theorem dksL_law_4 : cL_law.data.toList.drop 227 = dktL_law_4 := dk_seg dksL_law_3 23 rfl rfl
theorem dksL_law_5 : cL_law.data.toList.drop 251 = dktL_law_5 := dk_seg dksL_law_4 24 rfl rfl
theorem dksL_law_6 : cL_law.data.toList.drop 274 = dktL_law_6 := dk_seg dksL_law_5 23 rfl rfl
theorem dksL_law_7 : cL_law.data.toList.drop 298 = dktL_law_7 := dk_seg dksL_law_6 24 rfl rfl
theorem dksL_law_8 : cL_law.data.toList.drop 320 = dktL_law_8 := dk_seg dksL_law_7 22 rfl rfl
theorem dksL_law_9 : cL_law.data.toList.drop 342 = dktL_law_9 := dk_seg dksL_law_8 22 rfl rfl
theorem dksL_law_10 : cL_law.data.toList.drop 366 = dktL_law_10 := dk_seg dksL_law_9 24 rfl rfl
theorem dksL_law_11 : cL_law.data.toList.drop 388 = dktL_law_11 := dk_seg dksL_law_10 22 rfl rfl
theorem dksL_law_12 : cL_law.data.toList.drop 411 = dktL_law_12 := dk_seg dksL_law_11 23 rfl rfl
theorem dksL_law_13 : cL_law.data.toList.drop 434 = dktL_law_13 := dk_seg dksL_law_12 23 rfl rfl
theorem dksL_law_14 : cL_law.data.toList.drop 458 = dktL_law_14 := dk_seg dksL_law_13 24 rfl rfl
theorem dksL_law_15 : cL_law.data.toList.drop 481 = dktL_law_15 := dk_seg dksL_law_14 23 rfl rfl
theorem dksL_law_16 : cL_law.data.toList.drop 505 = dktL_law_16 := dk_seg dksL_law_15 24 rfl rfl
theorem dksL_law_17 : cL_law.data.toList.drop 528 = dktL_law_17 := dk_seg dksL_law_16 23 rfl rfl
theorem dksL_law_18 : cL_law.data.toList.drop 552 = dktL_law_18 := dk_seg dksL_law_17 24 rfl rfl
theorem dksL_law_19 : cL_law.data.toList.drop 575 = dktL_law_19 := dk_seg dksL_law_18 23 rfl rfl
theorem dksL_law_20 : cL_law.data.toList.drop 599 = dktL_law_20 := dk_seg dksL_law_19 24 rfl rfl
theorem dksL_law_21 : cL_law.data.toList.drop 622 = dktL_law_21 := dk_seg dksL_law_20 23 rfl rfl
theorem dksL_law_22 : cL_law.data.toList.drop 646 = dktL_law_22 := dk_seg dksL_law_21 24 rfl rfl
theorem dksL_law_23 : cL_law.data.toList.drop 668 = dktL_law_23 := dk_seg dksL_law_22 22 rfl rfl
theorem dksL_law_24 : cL_law.data.toList.drop 691 = dktL_law_24 := dk_seg dksL_law_23 23 rfl rfl
theorem dksL_law_25 : cL_law.data.toList.drop 714 = dktL_law_25 := dk_seg dksL_law_24 23 rfl rfl
theorem dksL_law_26 : cL_law.data.toList.drop 738 = dktL_law_26 := dk_seg dksL_law_25 24 rfl rfl
theorem dksL_law_27 : cL_law.data.toList.drop 761 = dktL_law_27 := dk_seg dksL_law_26 23 rfl rfl
theorem dksL_law_28 : cL_law.data.toList.drop 784 = dktL_law_28 := dk_seg dksL_law_27 23 rfl rfl
theorem dksL_law_29 : cL_law.data.toList.drop 808 = dktL_law_29 := dk_seg dksL_law_28 24 rfl rfl
theorem dksL_law_30 : cL_law.data.toList.drop 831 = dktL_law_30 := dk_seg dksL_law_29 23 rfl rfl
theorem dksL_law_31 : cL_law.data.toList.drop 855 = dktL_law_31 := dk_seg dksL_law_30 24 rfl rfl
theorem dksL_law_32 : cL_law.data.toList.drop 877 = dktL_law_32 := dk_seg dksL_law_31 22 rfl rfl
theorem dksL_law_33 : cL_law.data.toList.drop 900 = dktL_law_33 := dk_seg dksL_law_32 23 rfl rfl
theorem dksL_law_34 : cL_law.data.toList.drop 923 = dktL_law_34 := dk_seg dksL_law_33 23 rfl rfl
theorem dksL_law_35 : cL_law.data.toList.drop 947 = dktL_law_35 := dk_seg dksL_law_34 24 rfl rfl
theorem dksL_law_36 : cL_law.data.toList.drop 971 = dktL_law_36 := dk_seg dksL_law_35 24 rfl rfl
theorem dksL_law_37 : cL_law.data.toList.drop 994 = dktL_law_37 := dk_seg dksL_law_36 23 rfl rfl
theorem dksL_law_38 : cL_law.data.toList.drop 1018 = dktL_law_38 := dk_seg dksL_law_37 24 rfl rfl
theorem dksL_law_39 : cL_law.data.toList.drop 1041 = dktL_law_39 := dk_seg dksL_law_38 23 rfl rfl
theorem dksL_law_40 : cL_law.data.toList.drop 1065 = dktL_law_40 := dk_seg dksL_law_39 24 rfl rfl
theorem dksL_law_41 : cL_law.data.toList.drop 1088 = dktL_law_41 := dk_seg dksL_law_40 23 rfl rfl
theorem dksL_law_42 : cL_law.data.toList.drop 1112 = dktL_law_42 := dk_seg dksL_law_41 24 rfl rfl
theorem dksL_law_43 : cL_law.data.toList.drop 1135 = dktL_law_43 := dk_seg dksL_law_42 23 rfl rfl
theorem dksL_law_44 : cL_law.data.toList.drop 1159 = dktL_law_44 := dk_seg dksL_law_43 24 rfl rfl
theorem dksL_law_45 : cL_law.data.toList.drop 1183 = dktL_law_45 := dk_seg dksL_law_44 24 rfl rfl
theorem dksL_law_46 : cL_law.data.toList.drop 1207 = dktL_law_46 := dk_seg dksL_law_45 24 rfl rfl
theorem dksL_law_47 : cL_law.data.toList.drop 1230 = dktL_law_47 := dk_seg dksL_law_46 23 rfl rfl
theorem dksL_law_48 : cL_law.data.toList.drop 1254 = dktL_law_48 := dk_seg dksL_law_47 24 rfl rfl
theorem dksL_law_49 : cL_law.data.toList.drop 1277 = dktL_law_49 := dk_seg dksL_law_48 23 rfl rfl
theorem dksL_law_50 : cL_law.data.toList.drop 1301 = dktL_law_50 := dk_seg dksL_law_49 24 rfl rfl
theorem dksL_law_51 : cL_law.data.toList.drop 1324 = dktL_law_51 := dk_seg dksL_law_50 23 rfl rfl
theorem dksL_law_52 : cL_law.data.toList.drop 1348 = dktL_law_52 := dk_seg dksL_law_51 24 rfl rfl
theorem dksL_law_53 : cL_law.data.toList.drop 1371 = dktL_law_53 := dk_seg dksL_law_52 23 rfl rfl
theorem dksL_law_54 : cL_law.data.toList.drop 1395 = dktL_law_54 := dk_seg dksL_law_53 24 rfl rfl
theorem dksL_law_55 : cL_law.data.toList.drop 1417 = dktL_law_55 := dk_seg dksL_law_54 22 rfl rfl
theorem dksL_law_56 : cL_law.data.toList.drop 1440 = dktL_law_56 := dk_seg dksL_law_55 23 rfl rfl
theorem dksL_law_57 : cL_law.data.toList.drop 1463 = dktL_law_57 := dk_seg dksL_law_56 23 rfl rfl
theorem dksL_law_58 : cL_law.data.toList.drop 1487 = dktL_law_58 := dk_seg dksL_law_57 24 rfl rfl
theorem dksL_law_59 : cL_law.data.toList.drop 1510 = dktL_law_59 := dk_seg dksL_law_58 23 rfl rfl
theorem dksL_law_60 : cL_law.data.toList.drop 1534 = dktL_law_60 := dk_seg dksL_law_59 24 rfl rfl
theorem dksL_law_61 : cL_law.data.toList.drop 1558 = dktL_law_61 := dk_seg dksL_law_60 24 rfl rfl
theorem dksL_law_62 : cL_law.data.toList.drop 1582 = dktL_law_62 := dk_seg dksL_law_61 24 rfl rfl
theorem dksL_law_63 : cL_law.data.toList.drop 1606 = dktL_law_63 := dk_seg dksL_law_62 24 rfl rfl
theorem dksL_law_64 : cL_law.data.toList.drop 1630 = dktL_law_64 := dk_seg dksL_law_63 24 rfl rfl
theorem dksL_law_65 : cL_law.data.toList.drop 1653 = dktL_law_65 := dk_seg dksL_law_64 23 rfl rfl
theorem dksL_law_66 : cL_law.data.toList.drop 1675 = dktL_law_66 := dk_seg dksL_law_65 22 rfl rfl
theorem dksL_law_67 : cL_law.data.toList.drop 1699 = dktL_law_67 := dk_seg dksL_law_66 24 rfl rfl
theorem dksL_law_68 : cL_law.data.toList.drop 1723 = dktL_law_68 := dk_seg dksL_law_67 24 rfl rfl
theorem dksL_law_69 : cL_law.data.toList.drop 1747 = dktL_law_69 := dk_seg dksL_law_68 24 rfl rfl
theorem dksL_law_70 : cL_law.data.toList.drop 1771 = dktL_law_70 := dk_seg dksL_law_69 24 rfl rfl
theorem dksL_law_71 : cL_law.data.toList.drop 1794 = dktL_law_71 := dk_seg dksL_law_70 23 rfl rfl
theorem dksL_law_72 : cL_law.data.toList.drop 1818 = dktL_law_72 := dk_seg dksL_law_71 24 rfl rfl
theorem dksL_law_73 : cL_law.data.toList.drop 1841 = dktL_law_73 := dk_seg dksL_law_72 23 rfl rfl
theorem dksL_law_74 : cL_law.data.toList.drop 1865 = dktL_law_74 := dk_seg dksL_law_73 24 rfl rfl
theorem dksL_law_75 : cL_law.data.toList.drop 1887 = dktL_law_75 := dk_seg dksL_law_74 22 rfl rfl
theorem dksL_law_76 : cL_law.data.toList.drop 1910 = dktL_law_76 := dk_seg dksL_law_75 23 rfl rfl
theorem dksL_law_77 : cL_law.data.toList.drop 1933 = dktL_law_77 := dk_seg dksL_law_76 23 rfl rfl
theorem dksL_law_78 : cL_law.data.toList.drop 1957 = dktL_law_78 := dk_seg dksL_law_77 24 rfl rfl
theorem dksL_law_79 : cL_law.data.toList.drop 1981 = dktL_law_79 := dk_seg dksL_law_78 24 rfl rfl
theorem dksL_law_80 : cL_law.data.toList.drop 2004 = dktL_law_80 := dk_seg dksL_law_79 23 rfl rfl
theorem dksL_law_81 : cL_law.data.toList.drop 2028 = dktL_law_81 := dk_seg dksL_law_80 24 rfl rfl
theorem dksL_law_82 : cL_law.data.toList.drop 2050 = dktL_law_82 := dk_seg dksL_law_81 22 rfl rfl
theorem dksL_law_83 : cL_law.data.toList.drop 2073 = dktL_law_83 := dk_seg dksL_law_82 23 rfl rfl
theorem dksL_law_84 : cL_law.data.toList.drop 2097 = dktL_law_84 := dk_seg dksL_law_83 24 rfl rfl
theorem dksL_law_85 : cL_law.data.toList.drop 2120 = dktL_law_85 := dk_seg dksL_law_84 23 rfl rfl
theorem dksL_law_86 : cL_law.data.toList.drop 2142 = dktL_law_86 := dk_seg dksL_law_85 22 rfl rfl
theorem dksL_law_87 : cL_law.data.toList.drop 2164 = dktL_law_87 := dk_seg dksL_law_86 22 rfl rfl
theorem dL_law_0 : decode cL_law 0 = .ok (.new 8, 3) := dk_187 0 8 (dk_at dksL_law_0 0 rfl rfl)
theorem dL_law_3 : decode cL_law 3 = .ok (.dup, 1) := dk_89 (dk_at dksL_law_0 3 rfl rfl)
theorem dL_law_4 : decode cL_law 4 = .ok (.invokespecial 125, 3) := dk_183 0 125 (dk_at dksL_law_0 4 rfl rfl)
theorem dL_law_7 : decode cL_law 7 = .ok (.astore_n 1, 1) := dk_76 (dk_at dksL_law_0 7 rfl rfl)
theorem dL_law_8 : decode cL_law 8 = .ok (.new 126, 3) := dk_187 0 126 (dk_at dksL_law_0 8 rfl rfl)
theorem dL_law_11 : decode cL_law 11 = .ok (.dup, 1) := dk_89 (dk_at dksL_law_0 11 rfl rfl)
theorem dL_law_12 : decode cL_law 12 = .ok (.invokespecial 128, 3) := dk_183 0 128 (dk_at dksL_law_0 12 rfl rfl)
theorem dL_law_15 : decode cL_law 15 = .ok (.astore_n 2, 1) := dk_77 (dk_at dksL_law_0 15 rfl rfl)
theorem dL_law_16 : decode cL_law 16 = .ok (.iconst 1, 1) := dk_4 (dk_at dksL_law_0 16 rfl rfl)
theorem dL_law_17 : decode cL_law 17 = .ok (.newarray .long, 2) := dk_188_11 (dk_at dksL_law_0 17 rfl rfl)
theorem dL_law_19 : decode cL_law 19 = .ok (.astore_n 3, 1) := dk_78 (dk_at dksL_law_0 19 rfl rfl)
theorem dL_law_20 : decode cL_law 20 = .ok (.iconst 1, 1) := dk_4 (dk_at dksL_law_0 20 rfl rfl)
theorem dL_law_21 : decode cL_law 21 = .ok (.newarray .double, 2) := dk_188_7 (dk_at dksL_law_0 21 rfl rfl)
theorem dL_law_23 : decode cL_law 23 = .ok (.astore 4, 2) := dk_58 4 (dk_at dksL_law_1 0 rfl rfl)
theorem dL_law_25 : decode cL_law 25 = .ok (.iconst 0, 1) := dk_3 (dk_at dksL_law_1 2 rfl rfl)
theorem dL_law_26 : decode cL_law 26 = .ok (.istore 5, 2) := dk_54 5 (dk_at dksL_law_1 3 rfl rfl)
theorem dL_law_28 : decode cL_law 28 = .ok (.iload 5, 2) := dk_21 5 (dk_at dksL_law_1 5 rfl rfl)
theorem dL_law_30 : decode cL_law 30 = .ok (.aload_n 0, 1) := dk_42 (dk_at dksL_law_1 7 rfl rfl)
theorem dL_law_31 : decode cL_law 31 = .ok (.arraylength, 1) := dk_190 (dk_at dksL_law_1 8 rfl rfl)
theorem dL_law_32 : decode cL_law 32 = .ok (.iconst 4, 1) := dk_7 (dk_at dksL_law_1 9 rfl rfl)
theorem dL_law_33 : decode cL_law 33 = .ok (.isub, 1) := dk_100 (dk_at dksL_law_1 10 rfl rfl)
theorem dL_law_34 : decode cL_law 34 = .ok (.if_icmp .gt 2144, 3) := dk_163 8 96 (dk_at dksL_law_1 11 rfl rfl)
theorem dL_law_37 : decode cL_law 37 = .ok (.aload_n 0, 1) := dk_42 (dk_at dksL_law_1 14 rfl rfl)
theorem dL_law_38 : decode cL_law 38 = .ok (.iload 5, 2) := dk_21 5 (dk_at dksL_law_1 15 rfl rfl)
theorem dL_law_40 : decode cL_law 40 = .ok (.iaload, 1) := dk_46 (dk_at dksL_law_1 17 rfl rfl)
theorem dL_law_41 : decode cL_law 41 = .ok (.bipush 63, 2) := dk_16 63 (dk_at dksL_law_1 18 rfl rfl)
theorem dL_law_43 : decode cL_law 43 = .ok (.iand, 1) := dk_126 (dk_at dksL_law_1 20 rfl rfl)
theorem dL_law_44 : decode cL_law 44 = .ok (.tableswitch 2128 0 35 #[160, 216, 284, 352, 408, 464, 520, 564, 632, 688, 729, 785, 841, 897, 977, 1033, 1089, 1157, 1213, 1269, 1325, 1381, 1437, 1493, 1551, 1595, 1639, 1739, 1795, 1851, 1917, 1958, 2014, 2027, 2071, 2084], 160) := by decide +kernel
theorem dL_law_204 : decode cL_law 204 = .ok (.aload_n 1, 1) := dk_43 (dk_at dksL_law_3 0 rfl rfl)
theorem dL_law_205 : decode cL_law 205 = .ok (.aload_n 0, 1) := dk_42 (dk_at dksL_law_3 1 rfl rfl)
theorem dL_law_206 : decode cL_law 206 = .ok (.iload 5, 2) := dk_21 5 (dk_at dksL_law_3 2 rfl rfl)
theorem dL_law_208 : decode cL_law 208 = .ok (.iconst 1, 1) := dk_4 (dk_at dksL_law_3 4 rfl rfl)
theorem dL_law_209 : decode cL_law 209 = .ok (.iadd, 1) := dk_96 (dk_at dksL_law_3 5 rfl rfl)
theorem dL_law_210 : decode cL_law 210 = .ok (.iaload, 1) := dk_46 (dk_at dksL_law_3 6 rfl rfl)
theorem dL_law_211 : decode cL_law 211 = .ok (.aload_n 3, 1) := dk_45 (dk_at dksL_law_3 7 rfl rfl)
theorem dL_law_212 : decode cL_law 212 = .ok (.invokestatic 129, 3) := dk_184 0 129 (dk_at dksL_law_3 8 rfl rfl)
theorem dL_law_215 : decode cL_law 215 = .ok (.istore 6, 2) := dk_54 6 (dk_at dksL_law_3 11 rfl rfl)
theorem dL_law_217 : decode cL_law 217 = .ok (.aload_n 2, 1) := dk_44 (dk_at dksL_law_3 13 rfl rfl)
theorem dL_law_218 : decode cL_law 218 = .ok (.aload_n 0, 1) := dk_42 (dk_at dksL_law_3 14 rfl rfl)
theorem dL_law_219 : decode cL_law 219 = .ok (.iload 5, 2) := dk_21 5 (dk_at dksL_law_3 15 rfl rfl)
theorem dL_law_221 : decode cL_law 221 = .ok (.iconst 1, 1) := dk_4 (dk_at dksL_law_3 17 rfl rfl)
theorem dL_law_222 : decode cL_law 222 = .ok (.iadd, 1) := dk_96 (dk_at dksL_law_3 18 rfl rfl)
theorem dL_law_223 : decode cL_law 223 = .ok (.iaload, 1) := dk_46 (dk_at dksL_law_3 19 rfl rfl)
theorem dL_law_224 : decode cL_law 224 = .ok (.invokevirtual 134, 3) := dk_182 0 134 (dk_at dksL_law_3 20 rfl rfl)
theorem dL_law_227 : decode cL_law 227 = .ok (.istore 7, 2) := dk_54 7 (dk_at dksL_law_4 0 rfl rfl)
theorem dL_law_229 : decode cL_law 229 = .ok (.aload_n 2, 1) := dk_44 (dk_at dksL_law_4 2 rfl rfl)
theorem dL_law_230 : decode cL_law 230 = .ok (.invokevirtual 135, 3) := dk_182 0 135 (dk_at dksL_law_4 3 rfl rfl)
theorem dL_law_233 : decode cL_law 233 = .ok (.iload 6, 2) := dk_21 6 (dk_at dksL_law_4 6 rfl rfl)
theorem dL_law_235 : decode cL_law 235 = .ok (.if_icmp .eq 5, 3) := dk_159 0 5 (dk_at dksL_law_4 8 rfl rfl)
theorem dL_law_238 : decode cL_law 238 = .ok (.iconst 0, 1) := dk_3 (dk_at dksL_law_4 11 rfl rfl)
theorem dL_law_239 : decode cL_law 239 = .ok (.ireturn, 1) := dk_172 (dk_at dksL_law_4 12 rfl rfl)
theorem dL_law_240 : decode cL_law 240 = .ok (.iload 6, 2) := dk_21 6 (dk_at dksL_law_4 13 rfl rfl)
theorem dL_law_242 : decode cL_law 242 = .ok (.ifCond .ne 15, 3) := dk_154 0 15 (dk_at dksL_law_4 15 rfl rfl)
theorem dL_law_245 : decode cL_law 245 = .ok (.aload_n 3, 1) := dk_45 (dk_at dksL_law_4 18 rfl rfl)
theorem dL_law_246 : decode cL_law 246 = .ok (.iconst 0, 1) := dk_3 (dk_at dksL_law_4 19 rfl rfl)
theorem dL_law_247 : decode cL_law 247 = .ok (.laload, 1) := dk_47 (dk_at dksL_law_4 20 rfl rfl)
theorem dL_law_248 : decode cL_law 248 = .ok (.iload 7, 2) := dk_21 7 (dk_at dksL_law_4 21 rfl rfl)
theorem dL_law_250 : decode cL_law 250 = .ok (.i2l, 1) := dk_133 (dk_at dksL_law_4 23 rfl rfl)
theorem dL_law_251 : decode cL_law 251 = .ok (.lcmp, 1) := dk_148 (dk_at dksL_law_5 0 rfl rfl)
theorem dL_law_252 : decode cL_law 252 = .ok (.ifCond .eq 5, 3) := dk_153 0 5 (dk_at dksL_law_5 1 rfl rfl)
theorem dL_law_255 : decode cL_law 255 = .ok (.iconst 0, 1) := dk_3 (dk_at dksL_law_5 4 rfl rfl)
theorem dL_law_256 : decode cL_law 256 = .ok (.ireturn, 1) := dk_172 (dk_at dksL_law_5 5 rfl rfl)
theorem dL_law_257 : decode cL_law 257 = .ok (.goto 1915, 3) := dk_167 7 123 (dk_at dksL_law_5 6 rfl rfl)
theorem dL_law_260 : decode cL_law 260 = .ok (.aload_n 1, 1) := dk_43 (dk_at dksL_law_5 9 rfl rfl)
theorem dL_law_261 : decode cL_law 261 = .ok (.aload_n 0, 1) := dk_42 (dk_at dksL_law_5 10 rfl rfl)
theorem dL_law_262 : decode cL_law 262 = .ok (.iload 5, 2) := dk_21 5 (dk_at dksL_law_5 11 rfl rfl)
theorem dL_law_264 : decode cL_law 264 = .ok (.iconst 1, 1) := dk_4 (dk_at dksL_law_5 13 rfl rfl)
theorem dL_law_265 : decode cL_law 265 = .ok (.iadd, 1) := dk_96 (dk_at dksL_law_5 14 rfl rfl)
theorem dL_law_266 : decode cL_law 266 = .ok (.iaload, 1) := dk_46 (dk_at dksL_law_5 15 rfl rfl)
theorem dL_law_267 : decode cL_law 267 = .ok (.aload_n 0, 1) := dk_42 (dk_at dksL_law_5 16 rfl rfl)
theorem dL_law_268 : decode cL_law 268 = .ok (.iload 5, 2) := dk_21 5 (dk_at dksL_law_5 17 rfl rfl)
theorem dL_law_270 : decode cL_law 270 = .ok (.iconst 2, 1) := dk_5 (dk_at dksL_law_5 19 rfl rfl)
theorem dL_law_271 : decode cL_law 271 = .ok (.iadd, 1) := dk_96 (dk_at dksL_law_5 20 rfl rfl)
theorem dL_law_272 : decode cL_law 272 = .ok (.iaload, 1) := dk_46 (dk_at dksL_law_5 21 rfl rfl)
theorem dL_law_273 : decode cL_law 273 = .ok (.aload_n 3, 1) := dk_45 (dk_at dksL_law_5 22 rfl rfl)
theorem dL_law_274 : decode cL_law 274 = .ok (.invokestatic 138, 3) := dk_184 0 138 (dk_at dksL_law_6 0 rfl rfl)
theorem dL_law_277 : decode cL_law 277 = .ok (.istore 6, 2) := dk_54 6 (dk_at dksL_law_6 3 rfl rfl)
theorem dL_law_279 : decode cL_law 279 = .ok (.aload_n 2, 1) := dk_44 (dk_at dksL_law_6 5 rfl rfl)
theorem dL_law_280 : decode cL_law 280 = .ok (.aload_n 0, 1) := dk_42 (dk_at dksL_law_6 6 rfl rfl)
theorem dL_law_281 : decode cL_law 281 = .ok (.iload 5, 2) := dk_21 5 (dk_at dksL_law_6 7 rfl rfl)
theorem dL_law_283 : decode cL_law 283 = .ok (.iconst 1, 1) := dk_4 (dk_at dksL_law_6 9 rfl rfl)
theorem dL_law_284 : decode cL_law 284 = .ok (.iadd, 1) := dk_96 (dk_at dksL_law_6 10 rfl rfl)
theorem dL_law_285 : decode cL_law 285 = .ok (.iaload, 1) := dk_46 (dk_at dksL_law_6 11 rfl rfl)
theorem dL_law_286 : decode cL_law 286 = .ok (.aload_n 0, 1) := dk_42 (dk_at dksL_law_6 12 rfl rfl)
theorem dL_law_287 : decode cL_law 287 = .ok (.iload 5, 2) := dk_21 5 (dk_at dksL_law_6 13 rfl rfl)
theorem dL_law_289 : decode cL_law 289 = .ok (.iconst 2, 1) := dk_5 (dk_at dksL_law_6 15 rfl rfl)
theorem dL_law_290 : decode cL_law 290 = .ok (.iadd, 1) := dk_96 (dk_at dksL_law_6 16 rfl rfl)
theorem dL_law_291 : decode cL_law 291 = .ok (.iaload, 1) := dk_46 (dk_at dksL_law_6 17 rfl rfl)
theorem dL_law_292 : decode cL_law 292 = .ok (.invokevirtual 141, 3) := dk_182 0 141 (dk_at dksL_law_6 18 rfl rfl)
theorem dL_law_295 : decode cL_law 295 = .ok (.istore 7, 2) := dk_54 7 (dk_at dksL_law_6 21 rfl rfl)
theorem dL_law_297 : decode cL_law 297 = .ok (.aload_n 2, 1) := dk_44 (dk_at dksL_law_6 23 rfl rfl)
theorem dL_law_298 : decode cL_law 298 = .ok (.invokevirtual 135, 3) := dk_182 0 135 (dk_at dksL_law_7 0 rfl rfl)
theorem dL_law_301 : decode cL_law 301 = .ok (.iload 6, 2) := dk_21 6 (dk_at dksL_law_7 3 rfl rfl)
theorem dL_law_303 : decode cL_law 303 = .ok (.if_icmp .eq 5, 3) := dk_159 0 5 (dk_at dksL_law_7 5 rfl rfl)
theorem dL_law_306 : decode cL_law 306 = .ok (.iconst 0, 1) := dk_3 (dk_at dksL_law_7 8 rfl rfl)
theorem dL_law_307 : decode cL_law 307 = .ok (.ireturn, 1) := dk_172 (dk_at dksL_law_7 9 rfl rfl)
theorem dL_law_308 : decode cL_law 308 = .ok (.iload 6, 2) := dk_21 6 (dk_at dksL_law_7 10 rfl rfl)
theorem dL_law_310 : decode cL_law 310 = .ok (.ifCond .ne 15, 3) := dk_154 0 15 (dk_at dksL_law_7 12 rfl rfl)
theorem dL_law_313 : decode cL_law 313 = .ok (.aload_n 3, 1) := dk_45 (dk_at dksL_law_7 15 rfl rfl)
theorem dL_law_314 : decode cL_law 314 = .ok (.iconst 0, 1) := dk_3 (dk_at dksL_law_7 16 rfl rfl)
theorem dL_law_315 : decode cL_law 315 = .ok (.laload, 1) := dk_47 (dk_at dksL_law_7 17 rfl rfl)
theorem dL_law_316 : decode cL_law 316 = .ok (.iload 7, 2) := dk_21 7 (dk_at dksL_law_7 18 rfl rfl)
theorem dL_law_318 : decode cL_law 318 = .ok (.i2l, 1) := dk_133 (dk_at dksL_law_7 20 rfl rfl)
theorem dL_law_319 : decode cL_law 319 = .ok (.lcmp, 1) := dk_148 (dk_at dksL_law_7 21 rfl rfl)
theorem dL_law_320 : decode cL_law 320 = .ok (.ifCond .eq 5, 3) := dk_153 0 5 (dk_at dksL_law_8 0 rfl rfl)
theorem dL_law_323 : decode cL_law 323 = .ok (.iconst 0, 1) := dk_3 (dk_at dksL_law_8 3 rfl rfl)
theorem dL_law_324 : decode cL_law 324 = .ok (.ireturn, 1) := dk_172 (dk_at dksL_law_8 4 rfl rfl)
theorem dL_law_325 : decode cL_law 325 = .ok (.goto 1847, 3) := dk_167 7 55 (dk_at dksL_law_8 5 rfl rfl)
theorem dL_law_328 : decode cL_law 328 = .ok (.aload_n 1, 1) := dk_43 (dk_at dksL_law_8 8 rfl rfl)
theorem dL_law_329 : decode cL_law 329 = .ok (.aload_n 0, 1) := dk_42 (dk_at dksL_law_8 9 rfl rfl)
theorem dL_law_330 : decode cL_law 330 = .ok (.iload 5, 2) := dk_21 5 (dk_at dksL_law_8 10 rfl rfl)
theorem dL_law_332 : decode cL_law 332 = .ok (.iconst 1, 1) := dk_4 (dk_at dksL_law_8 12 rfl rfl)
theorem dL_law_333 : decode cL_law 333 = .ok (.iadd, 1) := dk_96 (dk_at dksL_law_8 13 rfl rfl)
theorem dL_law_334 : decode cL_law 334 = .ok (.iaload, 1) := dk_46 (dk_at dksL_law_8 14 rfl rfl)
theorem dL_law_335 : decode cL_law 335 = .ok (.aload_n 0, 1) := dk_42 (dk_at dksL_law_8 15 rfl rfl)
theorem dL_law_336 : decode cL_law 336 = .ok (.iload 5, 2) := dk_21 5 (dk_at dksL_law_8 16 rfl rfl)
theorem dL_law_338 : decode cL_law 338 = .ok (.iconst 2, 1) := dk_5 (dk_at dksL_law_8 18 rfl rfl)
theorem dL_law_339 : decode cL_law 339 = .ok (.iadd, 1) := dk_96 (dk_at dksL_law_8 19 rfl rfl)
theorem dL_law_340 : decode cL_law 340 = .ok (.iaload, 1) := dk_46 (dk_at dksL_law_8 20 rfl rfl)
theorem dL_law_341 : decode cL_law 341 = .ok (.aload_n 3, 1) := dk_45 (dk_at dksL_law_8 21 rfl rfl)
theorem dL_law_342 : decode cL_law 342 = .ok (.invokestatic 142, 3) := dk_184 0 142 (dk_at dksL_law_9 0 rfl rfl)
theorem dL_law_345 : decode cL_law 345 = .ok (.istore 6, 2) := dk_54 6 (dk_at dksL_law_9 3 rfl rfl)
theorem dL_law_347 : decode cL_law 347 = .ok (.aload_n 2, 1) := dk_44 (dk_at dksL_law_9 5 rfl rfl)
theorem dL_law_348 : decode cL_law 348 = .ok (.aload_n 0, 1) := dk_42 (dk_at dksL_law_9 6 rfl rfl)
theorem dL_law_349 : decode cL_law 349 = .ok (.iload 5, 2) := dk_21 5 (dk_at dksL_law_9 7 rfl rfl)
theorem dL_law_351 : decode cL_law 351 = .ok (.iconst 1, 1) := dk_4 (dk_at dksL_law_9 9 rfl rfl)
theorem dL_law_352 : decode cL_law 352 = .ok (.iadd, 1) := dk_96 (dk_at dksL_law_9 10 rfl rfl)
theorem dL_law_353 : decode cL_law 353 = .ok (.iaload, 1) := dk_46 (dk_at dksL_law_9 11 rfl rfl)
theorem dL_law_354 : decode cL_law 354 = .ok (.aload_n 0, 1) := dk_42 (dk_at dksL_law_9 12 rfl rfl)
theorem dL_law_355 : decode cL_law 355 = .ok (.iload 5, 2) := dk_21 5 (dk_at dksL_law_9 13 rfl rfl)
theorem dL_law_357 : decode cL_law 357 = .ok (.iconst 2, 1) := dk_5 (dk_at dksL_law_9 15 rfl rfl)
theorem dL_law_358 : decode cL_law 358 = .ok (.iadd, 1) := dk_96 (dk_at dksL_law_9 16 rfl rfl)
theorem dL_law_359 : decode cL_law 359 = .ok (.iaload, 1) := dk_46 (dk_at dksL_law_9 17 rfl rfl)
theorem dL_law_360 : decode cL_law 360 = .ok (.invokevirtual 144, 3) := dk_182 0 144 (dk_at dksL_law_9 18 rfl rfl)
theorem dL_law_363 : decode cL_law 363 = .ok (.istore 7, 2) := dk_54 7 (dk_at dksL_law_9 21 rfl rfl)
theorem dL_law_365 : decode cL_law 365 = .ok (.aload_n 2, 1) := dk_44 (dk_at dksL_law_9 23 rfl rfl)
theorem dL_law_366 : decode cL_law 366 = .ok (.invokevirtual 135, 3) := dk_182 0 135 (dk_at dksL_law_10 0 rfl rfl)
theorem dL_law_369 : decode cL_law 369 = .ok (.iload 6, 2) := dk_21 6 (dk_at dksL_law_10 3 rfl rfl)
theorem dL_law_371 : decode cL_law 371 = .ok (.if_icmp .eq 5, 3) := dk_159 0 5 (dk_at dksL_law_10 5 rfl rfl)
theorem dL_law_374 : decode cL_law 374 = .ok (.iconst 0, 1) := dk_3 (dk_at dksL_law_10 8 rfl rfl)
theorem dL_law_375 : decode cL_law 375 = .ok (.ireturn, 1) := dk_172 (dk_at dksL_law_10 9 rfl rfl)
theorem dL_law_376 : decode cL_law 376 = .ok (.iload 6, 2) := dk_21 6 (dk_at dksL_law_10 10 rfl rfl)
theorem dL_law_378 : decode cL_law 378 = .ok (.ifCond .ne 15, 3) := dk_154 0 15 (dk_at dksL_law_10 12 rfl rfl)
theorem dL_law_381 : decode cL_law 381 = .ok (.aload_n 3, 1) := dk_45 (dk_at dksL_law_10 15 rfl rfl)
theorem dL_law_382 : decode cL_law 382 = .ok (.iconst 0, 1) := dk_3 (dk_at dksL_law_10 16 rfl rfl)
theorem dL_law_383 : decode cL_law 383 = .ok (.laload, 1) := dk_47 (dk_at dksL_law_10 17 rfl rfl)
theorem dL_law_384 : decode cL_law 384 = .ok (.iload 7, 2) := dk_21 7 (dk_at dksL_law_10 18 rfl rfl)
theorem dL_law_386 : decode cL_law 386 = .ok (.i2l, 1) := dk_133 (dk_at dksL_law_10 20 rfl rfl)
theorem dL_law_387 : decode cL_law 387 = .ok (.lcmp, 1) := dk_148 (dk_at dksL_law_10 21 rfl rfl)
theorem dL_law_388 : decode cL_law 388 = .ok (.ifCond .eq 5, 3) := dk_153 0 5 (dk_at dksL_law_11 0 rfl rfl)
theorem dL_law_391 : decode cL_law 391 = .ok (.iconst 0, 1) := dk_3 (dk_at dksL_law_11 3 rfl rfl)
theorem dL_law_392 : decode cL_law 392 = .ok (.ireturn, 1) := dk_172 (dk_at dksL_law_11 4 rfl rfl)
theorem dL_law_393 : decode cL_law 393 = .ok (.goto 1779, 3) := dk_167 6 243 (dk_at dksL_law_11 5 rfl rfl)
theorem dL_law_396 : decode cL_law 396 = .ok (.aload_n 1, 1) := dk_43 (dk_at dksL_law_11 8 rfl rfl)
theorem dL_law_397 : decode cL_law 397 = .ok (.aload_n 0, 1) := dk_42 (dk_at dksL_law_11 9 rfl rfl)
theorem dL_law_398 : decode cL_law 398 = .ok (.iload 5, 2) := dk_21 5 (dk_at dksL_law_11 10 rfl rfl)
theorem dL_law_400 : decode cL_law 400 = .ok (.iconst 1, 1) := dk_4 (dk_at dksL_law_11 12 rfl rfl)
theorem dL_law_401 : decode cL_law 401 = .ok (.iadd, 1) := dk_96 (dk_at dksL_law_11 13 rfl rfl)
theorem dL_law_402 : decode cL_law 402 = .ok (.iaload, 1) := dk_46 (dk_at dksL_law_11 14 rfl rfl)
theorem dL_law_403 : decode cL_law 403 = .ok (.aload_n 3, 1) := dk_45 (dk_at dksL_law_11 15 rfl rfl)
theorem dL_law_404 : decode cL_law 404 = .ok (.invokestatic 145, 3) := dk_184 0 145 (dk_at dksL_law_11 16 rfl rfl)
theorem dL_law_407 : decode cL_law 407 = .ok (.istore 6, 2) := dk_54 6 (dk_at dksL_law_11 19 rfl rfl)
theorem dL_law_409 : decode cL_law 409 = .ok (.aload_n 2, 1) := dk_44 (dk_at dksL_law_11 21 rfl rfl)
theorem dL_law_410 : decode cL_law 410 = .ok (.aload_n 0, 1) := dk_42 (dk_at dksL_law_11 22 rfl rfl)
theorem dL_law_411 : decode cL_law 411 = .ok (.iload 5, 2) := dk_21 5 (dk_at dksL_law_12 0 rfl rfl)
theorem dL_law_413 : decode cL_law 413 = .ok (.iconst 1, 1) := dk_4 (dk_at dksL_law_12 2 rfl rfl)
theorem dL_law_414 : decode cL_law 414 = .ok (.iadd, 1) := dk_96 (dk_at dksL_law_12 3 rfl rfl)
theorem dL_law_415 : decode cL_law 415 = .ok (.iaload, 1) := dk_46 (dk_at dksL_law_12 4 rfl rfl)
theorem dL_law_416 : decode cL_law 416 = .ok (.invokevirtual 147, 3) := dk_182 0 147 (dk_at dksL_law_12 5 rfl rfl)
theorem dL_law_419 : decode cL_law 419 = .ok (.istore 7, 2) := dk_54 7 (dk_at dksL_law_12 8 rfl rfl)
theorem dL_law_421 : decode cL_law 421 = .ok (.aload_n 2, 1) := dk_44 (dk_at dksL_law_12 10 rfl rfl)
theorem dL_law_422 : decode cL_law 422 = .ok (.invokevirtual 135, 3) := dk_182 0 135 (dk_at dksL_law_12 11 rfl rfl)
theorem dL_law_425 : decode cL_law 425 = .ok (.iload 6, 2) := dk_21 6 (dk_at dksL_law_12 14 rfl rfl)
theorem dL_law_427 : decode cL_law 427 = .ok (.if_icmp .eq 5, 3) := dk_159 0 5 (dk_at dksL_law_12 16 rfl rfl)
theorem dL_law_430 : decode cL_law 430 = .ok (.iconst 0, 1) := dk_3 (dk_at dksL_law_12 19 rfl rfl)
theorem dL_law_431 : decode cL_law 431 = .ok (.ireturn, 1) := dk_172 (dk_at dksL_law_12 20 rfl rfl)
theorem dL_law_432 : decode cL_law 432 = .ok (.iload 6, 2) := dk_21 6 (dk_at dksL_law_12 21 rfl rfl)
theorem dL_law_434 : decode cL_law 434 = .ok (.ifCond .ne 15, 3) := dk_154 0 15 (dk_at dksL_law_13 0 rfl rfl)
theorem dL_law_437 : decode cL_law 437 = .ok (.aload_n 3, 1) := dk_45 (dk_at dksL_law_13 3 rfl rfl)
theorem dL_law_438 : decode cL_law 438 = .ok (.iconst 0, 1) := dk_3 (dk_at dksL_law_13 4 rfl rfl)
theorem dL_law_439 : decode cL_law 439 = .ok (.laload, 1) := dk_47 (dk_at dksL_law_13 5 rfl rfl)
theorem dL_law_440 : decode cL_law 440 = .ok (.iload 7, 2) := dk_21 7 (dk_at dksL_law_13 6 rfl rfl)
theorem dL_law_442 : decode cL_law 442 = .ok (.i2l, 1) := dk_133 (dk_at dksL_law_13 8 rfl rfl)
theorem dL_law_443 : decode cL_law 443 = .ok (.lcmp, 1) := dk_148 (dk_at dksL_law_13 9 rfl rfl)
theorem dL_law_444 : decode cL_law 444 = .ok (.ifCond .eq 5, 3) := dk_153 0 5 (dk_at dksL_law_13 10 rfl rfl)
theorem dL_law_447 : decode cL_law 447 = .ok (.iconst 0, 1) := dk_3 (dk_at dksL_law_13 13 rfl rfl)
theorem dL_law_448 : decode cL_law 448 = .ok (.ireturn, 1) := dk_172 (dk_at dksL_law_13 14 rfl rfl)
theorem dL_law_449 : decode cL_law 449 = .ok (.goto 1723, 3) := dk_167 6 187 (dk_at dksL_law_13 15 rfl rfl)
theorem dL_law_452 : decode cL_law 452 = .ok (.aload_n 1, 1) := dk_43 (dk_at dksL_law_13 18 rfl rfl)
theorem dL_law_453 : decode cL_law 453 = .ok (.aload_n 0, 1) := dk_42 (dk_at dksL_law_13 19 rfl rfl)
theorem dL_law_454 : decode cL_law 454 = .ok (.iload 5, 2) := dk_21 5 (dk_at dksL_law_13 20 rfl rfl)
theorem dL_law_456 : decode cL_law 456 = .ok (.iconst 1, 1) := dk_4 (dk_at dksL_law_13 22 rfl rfl)
theorem dL_law_457 : decode cL_law 457 = .ok (.iadd, 1) := dk_96 (dk_at dksL_law_13 23 rfl rfl)
theorem dL_law_458 : decode cL_law 458 = .ok (.iaload, 1) := dk_46 (dk_at dksL_law_14 0 rfl rfl)
theorem dL_law_459 : decode cL_law 459 = .ok (.aload_n 3, 1) := dk_45 (dk_at dksL_law_14 1 rfl rfl)
theorem dL_law_460 : decode cL_law 460 = .ok (.invokestatic 148, 3) := dk_184 0 148 (dk_at dksL_law_14 2 rfl rfl)
theorem dL_law_463 : decode cL_law 463 = .ok (.istore 6, 2) := dk_54 6 (dk_at dksL_law_14 5 rfl rfl)
theorem dL_law_465 : decode cL_law 465 = .ok (.aload_n 2, 1) := dk_44 (dk_at dksL_law_14 7 rfl rfl)
theorem dL_law_466 : decode cL_law 466 = .ok (.aload_n 0, 1) := dk_42 (dk_at dksL_law_14 8 rfl rfl)
theorem dL_law_467 : decode cL_law 467 = .ok (.iload 5, 2) := dk_21 5 (dk_at dksL_law_14 9 rfl rfl)
theorem dL_law_469 : decode cL_law 469 = .ok (.iconst 1, 1) := dk_4 (dk_at dksL_law_14 11 rfl rfl)
theorem dL_law_470 : decode cL_law 470 = .ok (.iadd, 1) := dk_96 (dk_at dksL_law_14 12 rfl rfl)
theorem dL_law_471 : decode cL_law 471 = .ok (.iaload, 1) := dk_46 (dk_at dksL_law_14 13 rfl rfl)
theorem dL_law_472 : decode cL_law 472 = .ok (.invokevirtual 150, 3) := dk_182 0 150 (dk_at dksL_law_14 14 rfl rfl)
theorem dL_law_475 : decode cL_law 475 = .ok (.istore 7, 2) := dk_54 7 (dk_at dksL_law_14 17 rfl rfl)
theorem dL_law_477 : decode cL_law 477 = .ok (.aload_n 2, 1) := dk_44 (dk_at dksL_law_14 19 rfl rfl)
theorem dL_law_478 : decode cL_law 478 = .ok (.invokevirtual 135, 3) := dk_182 0 135 (dk_at dksL_law_14 20 rfl rfl)
theorem dL_law_481 : decode cL_law 481 = .ok (.iload 6, 2) := dk_21 6 (dk_at dksL_law_15 0 rfl rfl)
theorem dL_law_483 : decode cL_law 483 = .ok (.if_icmp .eq 5, 3) := dk_159 0 5 (dk_at dksL_law_15 2 rfl rfl)
theorem dL_law_486 : decode cL_law 486 = .ok (.iconst 0, 1) := dk_3 (dk_at dksL_law_15 5 rfl rfl)
theorem dL_law_487 : decode cL_law 487 = .ok (.ireturn, 1) := dk_172 (dk_at dksL_law_15 6 rfl rfl)
theorem dL_law_488 : decode cL_law 488 = .ok (.iload 6, 2) := dk_21 6 (dk_at dksL_law_15 7 rfl rfl)
theorem dL_law_490 : decode cL_law 490 = .ok (.ifCond .ne 15, 3) := dk_154 0 15 (dk_at dksL_law_15 9 rfl rfl)
theorem dL_law_493 : decode cL_law 493 = .ok (.aload_n 3, 1) := dk_45 (dk_at dksL_law_15 12 rfl rfl)
theorem dL_law_494 : decode cL_law 494 = .ok (.iconst 0, 1) := dk_3 (dk_at dksL_law_15 13 rfl rfl)
theorem dL_law_495 : decode cL_law 495 = .ok (.laload, 1) := dk_47 (dk_at dksL_law_15 14 rfl rfl)
theorem dL_law_496 : decode cL_law 496 = .ok (.iload 7, 2) := dk_21 7 (dk_at dksL_law_15 15 rfl rfl)
theorem dL_law_498 : decode cL_law 498 = .ok (.i2l, 1) := dk_133 (dk_at dksL_law_15 17 rfl rfl)
theorem dL_law_499 : decode cL_law 499 = .ok (.lcmp, 1) := dk_148 (dk_at dksL_law_15 18 rfl rfl)
theorem dL_law_500 : decode cL_law 500 = .ok (.ifCond .eq 5, 3) := dk_153 0 5 (dk_at dksL_law_15 19 rfl rfl)
theorem dL_law_503 : decode cL_law 503 = .ok (.iconst 0, 1) := dk_3 (dk_at dksL_law_15 22 rfl rfl)
theorem dL_law_504 : decode cL_law 504 = .ok (.ireturn, 1) := dk_172 (dk_at dksL_law_15 23 rfl rfl)
theorem dL_law_505 : decode cL_law 505 = .ok (.goto 1667, 3) := dk_167 6 131 (dk_at dksL_law_16 0 rfl rfl)
theorem dL_law_508 : decode cL_law 508 = .ok (.aload_n 1, 1) := dk_43 (dk_at dksL_law_16 3 rfl rfl)
theorem dL_law_509 : decode cL_law 509 = .ok (.aload_n 0, 1) := dk_42 (dk_at dksL_law_16 4 rfl rfl)
theorem dL_law_510 : decode cL_law 510 = .ok (.iload 5, 2) := dk_21 5 (dk_at dksL_law_16 5 rfl rfl)
theorem dL_law_512 : decode cL_law 512 = .ok (.iconst 1, 1) := dk_4 (dk_at dksL_law_16 7 rfl rfl)
theorem dL_law_513 : decode cL_law 513 = .ok (.iadd, 1) := dk_96 (dk_at dksL_law_16 8 rfl rfl)
theorem dL_law_514 : decode cL_law 514 = .ok (.iaload, 1) := dk_46 (dk_at dksL_law_16 9 rfl rfl)
theorem dL_law_515 : decode cL_law 515 = .ok (.aload_n 3, 1) := dk_45 (dk_at dksL_law_16 10 rfl rfl)
theorem dL_law_516 : decode cL_law 516 = .ok (.invokestatic 151, 3) := dk_184 0 151 (dk_at dksL_law_16 11 rfl rfl)
theorem dL_law_519 : decode cL_law 519 = .ok (.istore 6, 2) := dk_54 6 (dk_at dksL_law_16 14 rfl rfl)
theorem dL_law_521 : decode cL_law 521 = .ok (.aload_n 2, 1) := dk_44 (dk_at dksL_law_16 16 rfl rfl)
theorem dL_law_522 : decode cL_law 522 = .ok (.aload_n 0, 1) := dk_42 (dk_at dksL_law_16 17 rfl rfl)
theorem dL_law_523 : decode cL_law 523 = .ok (.iload 5, 2) := dk_21 5 (dk_at dksL_law_16 18 rfl rfl)
theorem dL_law_525 : decode cL_law 525 = .ok (.iconst 1, 1) := dk_4 (dk_at dksL_law_16 20 rfl rfl)
theorem dL_law_526 : decode cL_law 526 = .ok (.iadd, 1) := dk_96 (dk_at dksL_law_16 21 rfl rfl)
theorem dL_law_527 : decode cL_law 527 = .ok (.iaload, 1) := dk_46 (dk_at dksL_law_16 22 rfl rfl)
theorem dL_law_528 : decode cL_law 528 = .ok (.invokevirtual 153, 3) := dk_182 0 153 (dk_at dksL_law_17 0 rfl rfl)
theorem dL_law_531 : decode cL_law 531 = .ok (.istore 7, 2) := dk_54 7 (dk_at dksL_law_17 3 rfl rfl)
theorem dL_law_533 : decode cL_law 533 = .ok (.aload_n 2, 1) := dk_44 (dk_at dksL_law_17 5 rfl rfl)
theorem dL_law_534 : decode cL_law 534 = .ok (.invokevirtual 135, 3) := dk_182 0 135 (dk_at dksL_law_17 6 rfl rfl)
theorem dL_law_537 : decode cL_law 537 = .ok (.iload 6, 2) := dk_21 6 (dk_at dksL_law_17 9 rfl rfl)
theorem dL_law_539 : decode cL_law 539 = .ok (.if_icmp .eq 5, 3) := dk_159 0 5 (dk_at dksL_law_17 11 rfl rfl)
theorem dL_law_542 : decode cL_law 542 = .ok (.iconst 0, 1) := dk_3 (dk_at dksL_law_17 14 rfl rfl)
theorem dL_law_543 : decode cL_law 543 = .ok (.ireturn, 1) := dk_172 (dk_at dksL_law_17 15 rfl rfl)
theorem dL_law_544 : decode cL_law 544 = .ok (.iload 6, 2) := dk_21 6 (dk_at dksL_law_17 16 rfl rfl)
theorem dL_law_546 : decode cL_law 546 = .ok (.ifCond .ne 15, 3) := dk_154 0 15 (dk_at dksL_law_17 18 rfl rfl)
theorem dL_law_549 : decode cL_law 549 = .ok (.aload_n 3, 1) := dk_45 (dk_at dksL_law_17 21 rfl rfl)
theorem dL_law_550 : decode cL_law 550 = .ok (.iconst 0, 1) := dk_3 (dk_at dksL_law_17 22 rfl rfl)
theorem dL_law_551 : decode cL_law 551 = .ok (.laload, 1) := dk_47 (dk_at dksL_law_17 23 rfl rfl)
theorem dL_law_552 : decode cL_law 552 = .ok (.iload 7, 2) := dk_21 7 (dk_at dksL_law_18 0 rfl rfl)
theorem dL_law_554 : decode cL_law 554 = .ok (.i2l, 1) := dk_133 (dk_at dksL_law_18 2 rfl rfl)
theorem dL_law_555 : decode cL_law 555 = .ok (.lcmp, 1) := dk_148 (dk_at dksL_law_18 3 rfl rfl)
theorem dL_law_556 : decode cL_law 556 = .ok (.ifCond .eq 5, 3) := dk_153 0 5 (dk_at dksL_law_18 4 rfl rfl)
theorem dL_law_559 : decode cL_law 559 = .ok (.iconst 0, 1) := dk_3 (dk_at dksL_law_18 7 rfl rfl)
theorem dL_law_560 : decode cL_law 560 = .ok (.ireturn, 1) := dk_172 (dk_at dksL_law_18 8 rfl rfl)
theorem dL_law_561 : decode cL_law 561 = .ok (.goto 1611, 3) := dk_167 6 75 (dk_at dksL_law_18 9 rfl rfl)
theorem dL_law_564 : decode cL_law 564 = .ok (.aload_n 1, 1) := dk_43 (dk_at dksL_law_18 12 rfl rfl)
theorem dL_law_565 : decode cL_law 565 = .ok (.aload_n 3, 1) := dk_45 (dk_at dksL_law_18 13 rfl rfl)
theorem dL_law_566 : decode cL_law 566 = .ok (.invokestatic 154, 3) := dk_184 0 154 (dk_at dksL_law_18 14 rfl rfl)
theorem dL_law_569 : decode cL_law 569 = .ok (.istore 6, 2) := dk_54 6 (dk_at dksL_law_18 17 rfl rfl)
theorem dL_law_571 : decode cL_law 571 = .ok (.aload_n 2, 1) := dk_44 (dk_at dksL_law_18 19 rfl rfl)
theorem dL_law_572 : decode cL_law 572 = .ok (.invokevirtual 157, 3) := dk_182 0 157 (dk_at dksL_law_18 20 rfl rfl)
theorem dL_law_575 : decode cL_law 575 = .ok (.istore 7, 2) := dk_54 7 (dk_at dksL_law_19 0 rfl rfl)
theorem dL_law_577 : decode cL_law 577 = .ok (.aload_n 2, 1) := dk_44 (dk_at dksL_law_19 2 rfl rfl)
theorem dL_law_578 : decode cL_law 578 = .ok (.invokevirtual 135, 3) := dk_182 0 135 (dk_at dksL_law_19 3 rfl rfl)
theorem dL_law_581 : decode cL_law 581 = .ok (.iload 6, 2) := dk_21 6 (dk_at dksL_law_19 6 rfl rfl)
theorem dL_law_583 : decode cL_law 583 = .ok (.if_icmp .eq 5, 3) := dk_159 0 5 (dk_at dksL_law_19 8 rfl rfl)
theorem dL_law_586 : decode cL_law 586 = .ok (.iconst 0, 1) := dk_3 (dk_at dksL_law_19 11 rfl rfl)
theorem dL_law_587 : decode cL_law 587 = .ok (.ireturn, 1) := dk_172 (dk_at dksL_law_19 12 rfl rfl)
theorem dL_law_588 : decode cL_law 588 = .ok (.iload 6, 2) := dk_21 6 (dk_at dksL_law_19 13 rfl rfl)
theorem dL_law_590 : decode cL_law 590 = .ok (.ifCond .ne 15, 3) := dk_154 0 15 (dk_at dksL_law_19 15 rfl rfl)
theorem dL_law_593 : decode cL_law 593 = .ok (.aload_n 3, 1) := dk_45 (dk_at dksL_law_19 18 rfl rfl)
theorem dL_law_594 : decode cL_law 594 = .ok (.iconst 0, 1) := dk_3 (dk_at dksL_law_19 19 rfl rfl)
theorem dL_law_595 : decode cL_law 595 = .ok (.laload, 1) := dk_47 (dk_at dksL_law_19 20 rfl rfl)
theorem dL_law_596 : decode cL_law 596 = .ok (.iload 7, 2) := dk_21 7 (dk_at dksL_law_19 21 rfl rfl)
theorem dL_law_598 : decode cL_law 598 = .ok (.i2l, 1) := dk_133 (dk_at dksL_law_19 23 rfl rfl)
theorem dL_law_599 : decode cL_law 599 = .ok (.lcmp, 1) := dk_148 (dk_at dksL_law_20 0 rfl rfl)
theorem dL_law_600 : decode cL_law 600 = .ok (.ifCond .eq 5, 3) := dk_153 0 5 (dk_at dksL_law_20 1 rfl rfl)
theorem dL_law_603 : decode cL_law 603 = .ok (.iconst 0, 1) := dk_3 (dk_at dksL_law_20 4 rfl rfl)
theorem dL_law_604 : decode cL_law 604 = .ok (.ireturn, 1) := dk_172 (dk_at dksL_law_20 5 rfl rfl)
theorem dL_law_605 : decode cL_law 605 = .ok (.goto 1567, 3) := dk_167 6 31 (dk_at dksL_law_20 6 rfl rfl)
theorem dL_law_608 : decode cL_law 608 = .ok (.aload_n 1, 1) := dk_43 (dk_at dksL_law_20 9 rfl rfl)
theorem dL_law_609 : decode cL_law 609 = .ok (.aload_n 0, 1) := dk_42 (dk_at dksL_law_20 10 rfl rfl)
theorem dL_law_610 : decode cL_law 610 = .ok (.iload 5, 2) := dk_21 5 (dk_at dksL_law_20 11 rfl rfl)
theorem dL_law_612 : decode cL_law 612 = .ok (.iconst 1, 1) := dk_4 (dk_at dksL_law_20 13 rfl rfl)
theorem dL_law_613 : decode cL_law 613 = .ok (.iadd, 1) := dk_96 (dk_at dksL_law_20 14 rfl rfl)
theorem dL_law_614 : decode cL_law 614 = .ok (.iaload, 1) := dk_46 (dk_at dksL_law_20 15 rfl rfl)
theorem dL_law_615 : decode cL_law 615 = .ok (.aload_n 0, 1) := dk_42 (dk_at dksL_law_20 16 rfl rfl)
theorem dL_law_616 : decode cL_law 616 = .ok (.iload 5, 2) := dk_21 5 (dk_at dksL_law_20 17 rfl rfl)
theorem dL_law_618 : decode cL_law 618 = .ok (.iconst 2, 1) := dk_5 (dk_at dksL_law_20 19 rfl rfl)
theorem dL_law_619 : decode cL_law 619 = .ok (.iadd, 1) := dk_96 (dk_at dksL_law_20 20 rfl rfl)
theorem dL_law_620 : decode cL_law 620 = .ok (.iaload, 1) := dk_46 (dk_at dksL_law_20 21 rfl rfl)
theorem dL_law_621 : decode cL_law 621 = .ok (.aload_n 3, 1) := dk_45 (dk_at dksL_law_20 22 rfl rfl)
theorem dL_law_622 : decode cL_law 622 = .ok (.invokestatic 158, 3) := dk_184 0 158 (dk_at dksL_law_21 0 rfl rfl)
theorem dL_law_625 : decode cL_law 625 = .ok (.istore 6, 2) := dk_54 6 (dk_at dksL_law_21 3 rfl rfl)
theorem dL_law_627 : decode cL_law 627 = .ok (.aload_n 2, 1) := dk_44 (dk_at dksL_law_21 5 rfl rfl)
theorem dL_law_628 : decode cL_law 628 = .ok (.aload_n 0, 1) := dk_42 (dk_at dksL_law_21 6 rfl rfl)
theorem dL_law_629 : decode cL_law 629 = .ok (.iload 5, 2) := dk_21 5 (dk_at dksL_law_21 7 rfl rfl)
theorem dL_law_631 : decode cL_law 631 = .ok (.iconst 1, 1) := dk_4 (dk_at dksL_law_21 9 rfl rfl)
theorem dL_law_632 : decode cL_law 632 = .ok (.iadd, 1) := dk_96 (dk_at dksL_law_21 10 rfl rfl)
theorem dL_law_633 : decode cL_law 633 = .ok (.iaload, 1) := dk_46 (dk_at dksL_law_21 11 rfl rfl)
theorem dL_law_634 : decode cL_law 634 = .ok (.aload_n 0, 1) := dk_42 (dk_at dksL_law_21 12 rfl rfl)
theorem dL_law_635 : decode cL_law 635 = .ok (.iload 5, 2) := dk_21 5 (dk_at dksL_law_21 13 rfl rfl)
theorem dL_law_637 : decode cL_law 637 = .ok (.iconst 2, 1) := dk_5 (dk_at dksL_law_21 15 rfl rfl)
theorem dL_law_638 : decode cL_law 638 = .ok (.iadd, 1) := dk_96 (dk_at dksL_law_21 16 rfl rfl)
theorem dL_law_639 : decode cL_law 639 = .ok (.iaload, 1) := dk_46 (dk_at dksL_law_21 17 rfl rfl)
theorem dL_law_640 : decode cL_law 640 = .ok (.invokevirtual 160, 3) := dk_182 0 160 (dk_at dksL_law_21 18 rfl rfl)
theorem dL_law_643 : decode cL_law 643 = .ok (.istore 7, 2) := dk_54 7 (dk_at dksL_law_21 21 rfl rfl)
theorem dL_law_645 : decode cL_law 645 = .ok (.aload_n 2, 1) := dk_44 (dk_at dksL_law_21 23 rfl rfl)
theorem dL_law_646 : decode cL_law 646 = .ok (.invokevirtual 135, 3) := dk_182 0 135 (dk_at dksL_law_22 0 rfl rfl)
theorem dL_law_649 : decode cL_law 649 = .ok (.iload 6, 2) := dk_21 6 (dk_at dksL_law_22 3 rfl rfl)
theorem dL_law_651 : decode cL_law 651 = .ok (.if_icmp .eq 5, 3) := dk_159 0 5 (dk_at dksL_law_22 5 rfl rfl)
theorem dL_law_654 : decode cL_law 654 = .ok (.iconst 0, 1) := dk_3 (dk_at dksL_law_22 8 rfl rfl)
theorem dL_law_655 : decode cL_law 655 = .ok (.ireturn, 1) := dk_172 (dk_at dksL_law_22 9 rfl rfl)
theorem dL_law_656 : decode cL_law 656 = .ok (.iload 6, 2) := dk_21 6 (dk_at dksL_law_22 10 rfl rfl)
theorem dL_law_658 : decode cL_law 658 = .ok (.ifCond .ne 15, 3) := dk_154 0 15 (dk_at dksL_law_22 12 rfl rfl)
theorem dL_law_661 : decode cL_law 661 = .ok (.aload_n 3, 1) := dk_45 (dk_at dksL_law_22 15 rfl rfl)
theorem dL_law_662 : decode cL_law 662 = .ok (.iconst 0, 1) := dk_3 (dk_at dksL_law_22 16 rfl rfl)
theorem dL_law_663 : decode cL_law 663 = .ok (.laload, 1) := dk_47 (dk_at dksL_law_22 17 rfl rfl)
theorem dL_law_664 : decode cL_law 664 = .ok (.iload 7, 2) := dk_21 7 (dk_at dksL_law_22 18 rfl rfl)
theorem dL_law_666 : decode cL_law 666 = .ok (.i2l, 1) := dk_133 (dk_at dksL_law_22 20 rfl rfl)
theorem dL_law_667 : decode cL_law 667 = .ok (.lcmp, 1) := dk_148 (dk_at dksL_law_22 21 rfl rfl)
theorem dL_law_668 : decode cL_law 668 = .ok (.ifCond .eq 5, 3) := dk_153 0 5 (dk_at dksL_law_23 0 rfl rfl)
theorem dL_law_671 : decode cL_law 671 = .ok (.iconst 0, 1) := dk_3 (dk_at dksL_law_23 3 rfl rfl)
theorem dL_law_672 : decode cL_law 672 = .ok (.ireturn, 1) := dk_172 (dk_at dksL_law_23 4 rfl rfl)
theorem dL_law_673 : decode cL_law 673 = .ok (.goto 1499, 3) := dk_167 5 219 (dk_at dksL_law_23 5 rfl rfl)
theorem dL_law_676 : decode cL_law 676 = .ok (.aload_n 1, 1) := dk_43 (dk_at dksL_law_23 8 rfl rfl)
theorem dL_law_677 : decode cL_law 677 = .ok (.aload_n 0, 1) := dk_42 (dk_at dksL_law_23 9 rfl rfl)
theorem dL_law_678 : decode cL_law 678 = .ok (.iload 5, 2) := dk_21 5 (dk_at dksL_law_23 10 rfl rfl)
theorem dL_law_680 : decode cL_law 680 = .ok (.iconst 1, 1) := dk_4 (dk_at dksL_law_23 12 rfl rfl)
theorem dL_law_681 : decode cL_law 681 = .ok (.iadd, 1) := dk_96 (dk_at dksL_law_23 13 rfl rfl)
theorem dL_law_682 : decode cL_law 682 = .ok (.iaload, 1) := dk_46 (dk_at dksL_law_23 14 rfl rfl)
theorem dL_law_683 : decode cL_law 683 = .ok (.aload_n 3, 1) := dk_45 (dk_at dksL_law_23 15 rfl rfl)
theorem dL_law_684 : decode cL_law 684 = .ok (.invokestatic 161, 3) := dk_184 0 161 (dk_at dksL_law_23 16 rfl rfl)
theorem dL_law_687 : decode cL_law 687 = .ok (.istore 6, 2) := dk_54 6 (dk_at dksL_law_23 19 rfl rfl)
theorem dL_law_689 : decode cL_law 689 = .ok (.aload_n 2, 1) := dk_44 (dk_at dksL_law_23 21 rfl rfl)
theorem dL_law_690 : decode cL_law 690 = .ok (.aload_n 0, 1) := dk_42 (dk_at dksL_law_23 22 rfl rfl)
theorem dL_law_691 : decode cL_law 691 = .ok (.iload 5, 2) := dk_21 5 (dk_at dksL_law_24 0 rfl rfl)
theorem dL_law_693 : decode cL_law 693 = .ok (.iconst 1, 1) := dk_4 (dk_at dksL_law_24 2 rfl rfl)
theorem dL_law_694 : decode cL_law 694 = .ok (.iadd, 1) := dk_96 (dk_at dksL_law_24 3 rfl rfl)
theorem dL_law_695 : decode cL_law 695 = .ok (.iaload, 1) := dk_46 (dk_at dksL_law_24 4 rfl rfl)
theorem dL_law_696 : decode cL_law 696 = .ok (.invokevirtual 163, 3) := dk_182 0 163 (dk_at dksL_law_24 5 rfl rfl)
theorem dL_law_699 : decode cL_law 699 = .ok (.istore 7, 2) := dk_54 7 (dk_at dksL_law_24 8 rfl rfl)
theorem dL_law_701 : decode cL_law 701 = .ok (.aload_n 2, 1) := dk_44 (dk_at dksL_law_24 10 rfl rfl)
theorem dL_law_702 : decode cL_law 702 = .ok (.invokevirtual 135, 3) := dk_182 0 135 (dk_at dksL_law_24 11 rfl rfl)
theorem dL_law_705 : decode cL_law 705 = .ok (.iload 6, 2) := dk_21 6 (dk_at dksL_law_24 14 rfl rfl)
theorem dL_law_707 : decode cL_law 707 = .ok (.if_icmp .eq 5, 3) := dk_159 0 5 (dk_at dksL_law_24 16 rfl rfl)
theorem dL_law_710 : decode cL_law 710 = .ok (.iconst 0, 1) := dk_3 (dk_at dksL_law_24 19 rfl rfl)
theorem dL_law_711 : decode cL_law 711 = .ok (.ireturn, 1) := dk_172 (dk_at dksL_law_24 20 rfl rfl)
theorem dL_law_712 : decode cL_law 712 = .ok (.iload 6, 2) := dk_21 6 (dk_at dksL_law_24 21 rfl rfl)
theorem dL_law_714 : decode cL_law 714 = .ok (.ifCond .ne 15, 3) := dk_154 0 15 (dk_at dksL_law_25 0 rfl rfl)
theorem dL_law_717 : decode cL_law 717 = .ok (.aload_n 3, 1) := dk_45 (dk_at dksL_law_25 3 rfl rfl)
theorem dL_law_718 : decode cL_law 718 = .ok (.iconst 0, 1) := dk_3 (dk_at dksL_law_25 4 rfl rfl)
theorem dL_law_719 : decode cL_law 719 = .ok (.laload, 1) := dk_47 (dk_at dksL_law_25 5 rfl rfl)
theorem dL_law_720 : decode cL_law 720 = .ok (.iload 7, 2) := dk_21 7 (dk_at dksL_law_25 6 rfl rfl)
theorem dL_law_722 : decode cL_law 722 = .ok (.i2l, 1) := dk_133 (dk_at dksL_law_25 8 rfl rfl)
theorem dL_law_723 : decode cL_law 723 = .ok (.lcmp, 1) := dk_148 (dk_at dksL_law_25 9 rfl rfl)
theorem dL_law_724 : decode cL_law 724 = .ok (.ifCond .eq 5, 3) := dk_153 0 5 (dk_at dksL_law_25 10 rfl rfl)
theorem dL_law_727 : decode cL_law 727 = .ok (.iconst 0, 1) := dk_3 (dk_at dksL_law_25 13 rfl rfl)
theorem dL_law_728 : decode cL_law 728 = .ok (.ireturn, 1) := dk_172 (dk_at dksL_law_25 14 rfl rfl)
theorem dL_law_729 : decode cL_law 729 = .ok (.goto 1443, 3) := dk_167 5 163 (dk_at dksL_law_25 15 rfl rfl)
theorem dL_law_732 : decode cL_law 732 = .ok (.aload_n 1, 1) := dk_43 (dk_at dksL_law_25 18 rfl rfl)
theorem dL_law_733 : decode cL_law 733 = .ok (.aload_n 0, 1) := dk_42 (dk_at dksL_law_25 19 rfl rfl)
theorem dL_law_734 : decode cL_law 734 = .ok (.iload 5, 2) := dk_21 5 (dk_at dksL_law_25 20 rfl rfl)
theorem dL_law_736 : decode cL_law 736 = .ok (.iconst 1, 1) := dk_4 (dk_at dksL_law_25 22 rfl rfl)
theorem dL_law_737 : decode cL_law 737 = .ok (.iadd, 1) := dk_96 (dk_at dksL_law_25 23 rfl rfl)
theorem dL_law_738 : decode cL_law 738 = .ok (.iaload, 1) := dk_46 (dk_at dksL_law_26 0 rfl rfl)
theorem dL_law_739 : decode cL_law 739 = .ok (.ifCond .eq 7, 3) := dk_153 0 7 (dk_at dksL_law_26 1 rfl rfl)
theorem dL_law_742 : decode cL_law 742 = .ok (.iconst 1, 1) := dk_4 (dk_at dksL_law_26 4 rfl rfl)
theorem dL_law_743 : decode cL_law 743 = .ok (.goto 4, 3) := dk_167 0 4 (dk_at dksL_law_26 5 rfl rfl)
theorem dL_law_746 : decode cL_law 746 = .ok (.iconst 0, 1) := dk_3 (dk_at dksL_law_26 8 rfl rfl)
theorem dL_law_747 : decode cL_law 747 = .ok (.invokevirtual 164, 3) := dk_182 0 164 (dk_at dksL_law_26 9 rfl rfl)
theorem dL_law_750 : decode cL_law 750 = .ok (.aload_n 2, 1) := dk_44 (dk_at dksL_law_26 12 rfl rfl)
theorem dL_law_751 : decode cL_law 751 = .ok (.aload_n 0, 1) := dk_42 (dk_at dksL_law_26 13 rfl rfl)
theorem dL_law_752 : decode cL_law 752 = .ok (.iload 5, 2) := dk_21 5 (dk_at dksL_law_26 14 rfl rfl)
theorem dL_law_754 : decode cL_law 754 = .ok (.iconst 1, 1) := dk_4 (dk_at dksL_law_26 16 rfl rfl)
theorem dL_law_755 : decode cL_law 755 = .ok (.iadd, 1) := dk_96 (dk_at dksL_law_26 17 rfl rfl)
theorem dL_law_756 : decode cL_law 756 = .ok (.iaload, 1) := dk_46 (dk_at dksL_law_26 18 rfl rfl)
theorem dL_law_757 : decode cL_law 757 = .ok (.ifCond .eq 7, 3) := dk_153 0 7 (dk_at dksL_law_26 19 rfl rfl)
theorem dL_law_760 : decode cL_law 760 = .ok (.iconst 1, 1) := dk_4 (dk_at dksL_law_26 22 rfl rfl)
theorem dL_law_761 : decode cL_law 761 = .ok (.goto 4, 3) := dk_167 0 4 (dk_at dksL_law_27 0 rfl rfl)
theorem dL_law_764 : decode cL_law 764 = .ok (.iconst 0, 1) := dk_3 (dk_at dksL_law_27 3 rfl rfl)
theorem dL_law_765 : decode cL_law 765 = .ok (.invokevirtual 168, 3) := dk_182 0 168 (dk_at dksL_law_27 4 rfl rfl)
theorem dL_law_768 : decode cL_law 768 = .ok (.if_icmp .eq 1404, 3) := dk_159 5 124 (dk_at dksL_law_27 7 rfl rfl)
theorem dL_law_771 : decode cL_law 771 = .ok (.iconst 0, 1) := dk_3 (dk_at dksL_law_27 10 rfl rfl)
theorem dL_law_772 : decode cL_law 772 = .ok (.ireturn, 1) := dk_172 (dk_at dksL_law_27 11 rfl rfl)
theorem dL_law_773 : decode cL_law 773 = .ok (.aload_n 1, 1) := dk_43 (dk_at dksL_law_27 12 rfl rfl)
theorem dL_law_774 : decode cL_law 774 = .ok (.aload_n 0, 1) := dk_42 (dk_at dksL_law_27 13 rfl rfl)
theorem dL_law_775 : decode cL_law 775 = .ok (.iload 5, 2) := dk_21 5 (dk_at dksL_law_27 14 rfl rfl)
theorem dL_law_777 : decode cL_law 777 = .ok (.iconst 1, 1) := dk_4 (dk_at dksL_law_27 16 rfl rfl)
theorem dL_law_778 : decode cL_law 778 = .ok (.iadd, 1) := dk_96 (dk_at dksL_law_27 17 rfl rfl)
theorem dL_law_779 : decode cL_law 779 = .ok (.iaload, 1) := dk_46 (dk_at dksL_law_27 18 rfl rfl)
theorem dL_law_780 : decode cL_law 780 = .ok (.aload_n 3, 1) := dk_45 (dk_at dksL_law_27 19 rfl rfl)
theorem dL_law_781 : decode cL_law 781 = .ok (.invokestatic 169, 3) := dk_184 0 169 (dk_at dksL_law_27 20 rfl rfl)
theorem dL_law_784 : decode cL_law 784 = .ok (.istore 6, 2) := dk_54 6 (dk_at dksL_law_28 0 rfl rfl)
theorem dL_law_786 : decode cL_law 786 = .ok (.aload_n 2, 1) := dk_44 (dk_at dksL_law_28 2 rfl rfl)
theorem dL_law_787 : decode cL_law 787 = .ok (.aload_n 0, 1) := dk_42 (dk_at dksL_law_28 3 rfl rfl)
theorem dL_law_788 : decode cL_law 788 = .ok (.iload 5, 2) := dk_21 5 (dk_at dksL_law_28 4 rfl rfl)
theorem dL_law_790 : decode cL_law 790 = .ok (.iconst 1, 1) := dk_4 (dk_at dksL_law_28 6 rfl rfl)
theorem dL_law_791 : decode cL_law 791 = .ok (.iadd, 1) := dk_96 (dk_at dksL_law_28 7 rfl rfl)
theorem dL_law_792 : decode cL_law 792 = .ok (.iaload, 1) := dk_46 (dk_at dksL_law_28 8 rfl rfl)
theorem dL_law_793 : decode cL_law 793 = .ok (.invokevirtual 171, 3) := dk_182 0 171 (dk_at dksL_law_28 9 rfl rfl)
theorem dL_law_796 : decode cL_law 796 = .ok (.istore 7, 2) := dk_54 7 (dk_at dksL_law_28 12 rfl rfl)
theorem dL_law_798 : decode cL_law 798 = .ok (.aload_n 2, 1) := dk_44 (dk_at dksL_law_28 14 rfl rfl)
theorem dL_law_799 : decode cL_law 799 = .ok (.invokevirtual 135, 3) := dk_182 0 135 (dk_at dksL_law_28 15 rfl rfl)
theorem dL_law_802 : decode cL_law 802 = .ok (.iload 6, 2) := dk_21 6 (dk_at dksL_law_28 18 rfl rfl)
theorem dL_law_804 : decode cL_law 804 = .ok (.if_icmp .eq 5, 3) := dk_159 0 5 (dk_at dksL_law_28 20 rfl rfl)
theorem dL_law_807 : decode cL_law 807 = .ok (.iconst 0, 1) := dk_3 (dk_at dksL_law_28 23 rfl rfl)
theorem dL_law_808 : decode cL_law 808 = .ok (.ireturn, 1) := dk_172 (dk_at dksL_law_29 0 rfl rfl)
theorem dL_law_809 : decode cL_law 809 = .ok (.iload 6, 2) := dk_21 6 (dk_at dksL_law_29 1 rfl rfl)
theorem dL_law_811 : decode cL_law 811 = .ok (.ifCond .ne 15, 3) := dk_154 0 15 (dk_at dksL_law_29 3 rfl rfl)
theorem dL_law_814 : decode cL_law 814 = .ok (.aload_n 3, 1) := dk_45 (dk_at dksL_law_29 6 rfl rfl)
theorem dL_law_815 : decode cL_law 815 = .ok (.iconst 0, 1) := dk_3 (dk_at dksL_law_29 7 rfl rfl)
theorem dL_law_816 : decode cL_law 816 = .ok (.laload, 1) := dk_47 (dk_at dksL_law_29 8 rfl rfl)
theorem dL_law_817 : decode cL_law 817 = .ok (.iload 7, 2) := dk_21 7 (dk_at dksL_law_29 9 rfl rfl)
theorem dL_law_819 : decode cL_law 819 = .ok (.i2l, 1) := dk_133 (dk_at dksL_law_29 11 rfl rfl)
theorem dL_law_820 : decode cL_law 820 = .ok (.lcmp, 1) := dk_148 (dk_at dksL_law_29 12 rfl rfl)
theorem dL_law_821 : decode cL_law 821 = .ok (.ifCond .eq 5, 3) := dk_153 0 5 (dk_at dksL_law_29 13 rfl rfl)
theorem dL_law_824 : decode cL_law 824 = .ok (.iconst 0, 1) := dk_3 (dk_at dksL_law_29 16 rfl rfl)
theorem dL_law_825 : decode cL_law 825 = .ok (.ireturn, 1) := dk_172 (dk_at dksL_law_29 17 rfl rfl)
theorem dL_law_826 : decode cL_law 826 = .ok (.goto 1346, 3) := dk_167 5 66 (dk_at dksL_law_29 18 rfl rfl)
theorem dL_law_829 : decode cL_law 829 = .ok (.aload_n 1, 1) := dk_43 (dk_at dksL_law_29 21 rfl rfl)
theorem dL_law_830 : decode cL_law 830 = .ok (.aload_n 0, 1) := dk_42 (dk_at dksL_law_29 22 rfl rfl)
theorem dL_law_831 : decode cL_law 831 = .ok (.iload 5, 2) := dk_21 5 (dk_at dksL_law_30 0 rfl rfl)
theorem dL_law_833 : decode cL_law 833 = .ok (.iconst 1, 1) := dk_4 (dk_at dksL_law_30 2 rfl rfl)
theorem dL_law_834 : decode cL_law 834 = .ok (.iadd, 1) := dk_96 (dk_at dksL_law_30 3 rfl rfl)
theorem dL_law_835 : decode cL_law 835 = .ok (.iaload, 1) := dk_46 (dk_at dksL_law_30 4 rfl rfl)
theorem dL_law_836 : decode cL_law 836 = .ok (.aload_n 3, 1) := dk_45 (dk_at dksL_law_30 5 rfl rfl)
theorem dL_law_837 : decode cL_law 837 = .ok (.invokestatic 172, 3) := dk_184 0 172 (dk_at dksL_law_30 6 rfl rfl)
theorem dL_law_840 : decode cL_law 840 = .ok (.istore 6, 2) := dk_54 6 (dk_at dksL_law_30 9 rfl rfl)
theorem dL_law_842 : decode cL_law 842 = .ok (.aload_n 2, 1) := dk_44 (dk_at dksL_law_30 11 rfl rfl)
theorem dL_law_843 : decode cL_law 843 = .ok (.aload_n 0, 1) := dk_42 (dk_at dksL_law_30 12 rfl rfl)
theorem dL_law_844 : decode cL_law 844 = .ok (.iload 5, 2) := dk_21 5 (dk_at dksL_law_30 13 rfl rfl)
theorem dL_law_846 : decode cL_law 846 = .ok (.iconst 1, 1) := dk_4 (dk_at dksL_law_30 15 rfl rfl)
theorem dL_law_847 : decode cL_law 847 = .ok (.iadd, 1) := dk_96 (dk_at dksL_law_30 16 rfl rfl)
theorem dL_law_848 : decode cL_law 848 = .ok (.iaload, 1) := dk_46 (dk_at dksL_law_30 17 rfl rfl)
theorem dL_law_849 : decode cL_law 849 = .ok (.invokevirtual 174, 3) := dk_182 0 174 (dk_at dksL_law_30 18 rfl rfl)
theorem dL_law_852 : decode cL_law 852 = .ok (.istore 7, 2) := dk_54 7 (dk_at dksL_law_30 21 rfl rfl)
theorem dL_law_854 : decode cL_law 854 = .ok (.aload_n 2, 1) := dk_44 (dk_at dksL_law_30 23 rfl rfl)
theorem dL_law_855 : decode cL_law 855 = .ok (.invokevirtual 135, 3) := dk_182 0 135 (dk_at dksL_law_31 0 rfl rfl)
theorem dL_law_858 : decode cL_law 858 = .ok (.iload 6, 2) := dk_21 6 (dk_at dksL_law_31 3 rfl rfl)
theorem dL_law_860 : decode cL_law 860 = .ok (.if_icmp .eq 5, 3) := dk_159 0 5 (dk_at dksL_law_31 5 rfl rfl)
theorem dL_law_863 : decode cL_law 863 = .ok (.iconst 0, 1) := dk_3 (dk_at dksL_law_31 8 rfl rfl)
theorem dL_law_864 : decode cL_law 864 = .ok (.ireturn, 1) := dk_172 (dk_at dksL_law_31 9 rfl rfl)
theorem dL_law_865 : decode cL_law 865 = .ok (.iload 6, 2) := dk_21 6 (dk_at dksL_law_31 10 rfl rfl)
theorem dL_law_867 : decode cL_law 867 = .ok (.ifCond .ne 15, 3) := dk_154 0 15 (dk_at dksL_law_31 12 rfl rfl)
theorem dL_law_870 : decode cL_law 870 = .ok (.aload_n 3, 1) := dk_45 (dk_at dksL_law_31 15 rfl rfl)
theorem dL_law_871 : decode cL_law 871 = .ok (.iconst 0, 1) := dk_3 (dk_at dksL_law_31 16 rfl rfl)
theorem dL_law_872 : decode cL_law 872 = .ok (.laload, 1) := dk_47 (dk_at dksL_law_31 17 rfl rfl)
theorem dL_law_873 : decode cL_law 873 = .ok (.iload 7, 2) := dk_21 7 (dk_at dksL_law_31 18 rfl rfl)
theorem dL_law_875 : decode cL_law 875 = .ok (.i2l, 1) := dk_133 (dk_at dksL_law_31 20 rfl rfl)
theorem dL_law_876 : decode cL_law 876 = .ok (.lcmp, 1) := dk_148 (dk_at dksL_law_31 21 rfl rfl)
theorem dL_law_877 : decode cL_law 877 = .ok (.ifCond .eq 5, 3) := dk_153 0 5 (dk_at dksL_law_32 0 rfl rfl)
theorem dL_law_880 : decode cL_law 880 = .ok (.iconst 0, 1) := dk_3 (dk_at dksL_law_32 3 rfl rfl)
theorem dL_law_881 : decode cL_law 881 = .ok (.ireturn, 1) := dk_172 (dk_at dksL_law_32 4 rfl rfl)
theorem dL_law_882 : decode cL_law 882 = .ok (.goto 1290, 3) := dk_167 5 10 (dk_at dksL_law_32 5 rfl rfl)
theorem dL_law_885 : decode cL_law 885 = .ok (.aload_n 1, 1) := dk_43 (dk_at dksL_law_32 8 rfl rfl)
theorem dL_law_886 : decode cL_law 886 = .ok (.aload_n 0, 1) := dk_42 (dk_at dksL_law_32 9 rfl rfl)
theorem dL_law_887 : decode cL_law 887 = .ok (.iload 5, 2) := dk_21 5 (dk_at dksL_law_32 10 rfl rfl)
theorem dL_law_889 : decode cL_law 889 = .ok (.iconst 1, 1) := dk_4 (dk_at dksL_law_32 12 rfl rfl)
theorem dL_law_890 : decode cL_law 890 = .ok (.iadd, 1) := dk_96 (dk_at dksL_law_32 13 rfl rfl)
theorem dL_law_891 : decode cL_law 891 = .ok (.iaload, 1) := dk_46 (dk_at dksL_law_32 14 rfl rfl)
theorem dL_law_892 : decode cL_law 892 = .ok (.aload_n 3, 1) := dk_45 (dk_at dksL_law_32 15 rfl rfl)
theorem dL_law_893 : decode cL_law 893 = .ok (.invokestatic 175, 3) := dk_184 0 175 (dk_at dksL_law_32 16 rfl rfl)
theorem dL_law_896 : decode cL_law 896 = .ok (.istore 6, 2) := dk_54 6 (dk_at dksL_law_32 19 rfl rfl)
theorem dL_law_898 : decode cL_law 898 = .ok (.aload_n 2, 1) := dk_44 (dk_at dksL_law_32 21 rfl rfl)
theorem dL_law_899 : decode cL_law 899 = .ok (.aload_n 0, 1) := dk_42 (dk_at dksL_law_32 22 rfl rfl)
theorem dL_law_900 : decode cL_law 900 = .ok (.iload 5, 2) := dk_21 5 (dk_at dksL_law_33 0 rfl rfl)
theorem dL_law_902 : decode cL_law 902 = .ok (.iconst 1, 1) := dk_4 (dk_at dksL_law_33 2 rfl rfl)
theorem dL_law_903 : decode cL_law 903 = .ok (.iadd, 1) := dk_96 (dk_at dksL_law_33 3 rfl rfl)
theorem dL_law_904 : decode cL_law 904 = .ok (.iaload, 1) := dk_46 (dk_at dksL_law_33 4 rfl rfl)
theorem dL_law_905 : decode cL_law 905 = .ok (.invokevirtual 177, 3) := dk_182 0 177 (dk_at dksL_law_33 5 rfl rfl)
theorem dL_law_908 : decode cL_law 908 = .ok (.istore 7, 2) := dk_54 7 (dk_at dksL_law_33 8 rfl rfl)
theorem dL_law_910 : decode cL_law 910 = .ok (.aload_n 2, 1) := dk_44 (dk_at dksL_law_33 10 rfl rfl)
theorem dL_law_911 : decode cL_law 911 = .ok (.invokevirtual 135, 3) := dk_182 0 135 (dk_at dksL_law_33 11 rfl rfl)
theorem dL_law_914 : decode cL_law 914 = .ok (.iload 6, 2) := dk_21 6 (dk_at dksL_law_33 14 rfl rfl)
theorem dL_law_916 : decode cL_law 916 = .ok (.if_icmp .eq 5, 3) := dk_159 0 5 (dk_at dksL_law_33 16 rfl rfl)
theorem dL_law_919 : decode cL_law 919 = .ok (.iconst 0, 1) := dk_3 (dk_at dksL_law_33 19 rfl rfl)
theorem dL_law_920 : decode cL_law 920 = .ok (.ireturn, 1) := dk_172 (dk_at dksL_law_33 20 rfl rfl)
theorem dL_law_921 : decode cL_law 921 = .ok (.iload 6, 2) := dk_21 6 (dk_at dksL_law_33 21 rfl rfl)
theorem dL_law_923 : decode cL_law 923 = .ok (.ifCond .ne 15, 3) := dk_154 0 15 (dk_at dksL_law_34 0 rfl rfl)
theorem dL_law_926 : decode cL_law 926 = .ok (.aload_n 3, 1) := dk_45 (dk_at dksL_law_34 3 rfl rfl)
theorem dL_law_927 : decode cL_law 927 = .ok (.iconst 0, 1) := dk_3 (dk_at dksL_law_34 4 rfl rfl)
theorem dL_law_928 : decode cL_law 928 = .ok (.laload, 1) := dk_47 (dk_at dksL_law_34 5 rfl rfl)
theorem dL_law_929 : decode cL_law 929 = .ok (.iload 7, 2) := dk_21 7 (dk_at dksL_law_34 6 rfl rfl)
theorem dL_law_931 : decode cL_law 931 = .ok (.i2l, 1) := dk_133 (dk_at dksL_law_34 8 rfl rfl)
theorem dL_law_932 : decode cL_law 932 = .ok (.lcmp, 1) := dk_148 (dk_at dksL_law_34 9 rfl rfl)
theorem dL_law_933 : decode cL_law 933 = .ok (.ifCond .eq 5, 3) := dk_153 0 5 (dk_at dksL_law_34 10 rfl rfl)
theorem dL_law_936 : decode cL_law 936 = .ok (.iconst 0, 1) := dk_3 (dk_at dksL_law_34 13 rfl rfl)
theorem dL_law_937 : decode cL_law 937 = .ok (.ireturn, 1) := dk_172 (dk_at dksL_law_34 14 rfl rfl)
theorem dL_law_938 : decode cL_law 938 = .ok (.goto 1234, 3) := dk_167 4 210 (dk_at dksL_law_34 15 rfl rfl)
theorem dL_law_941 : decode cL_law 941 = .ok (.aload_n 1, 1) := dk_43 (dk_at dksL_law_34 18 rfl rfl)
theorem dL_law_942 : decode cL_law 942 = .ok (.aload_n 0, 1) := dk_42 (dk_at dksL_law_34 19 rfl rfl)
theorem dL_law_943 : decode cL_law 943 = .ok (.iload 5, 2) := dk_21 5 (dk_at dksL_law_34 20 rfl rfl)
theorem dL_law_945 : decode cL_law 945 = .ok (.iconst 1, 1) := dk_4 (dk_at dksL_law_34 22 rfl rfl)
theorem dL_law_946 : decode cL_law 946 = .ok (.iadd, 1) := dk_96 (dk_at dksL_law_34 23 rfl rfl)
theorem dL_law_947 : decode cL_law 947 = .ok (.iaload, 1) := dk_46 (dk_at dksL_law_35 0 rfl rfl)
theorem dL_law_948 : decode cL_law 948 = .ok (.aload_n 0, 1) := dk_42 (dk_at dksL_law_35 1 rfl rfl)
theorem dL_law_949 : decode cL_law 949 = .ok (.iload 5, 2) := dk_21 5 (dk_at dksL_law_35 2 rfl rfl)
theorem dL_law_951 : decode cL_law 951 = .ok (.iconst 2, 1) := dk_5 (dk_at dksL_law_35 4 rfl rfl)
theorem dL_law_952 : decode cL_law 952 = .ok (.iadd, 1) := dk_96 (dk_at dksL_law_35 5 rfl rfl)
theorem dL_law_953 : decode cL_law 953 = .ok (.iaload, 1) := dk_46 (dk_at dksL_law_35 6 rfl rfl)
theorem dL_law_954 : decode cL_law 954 = .ok (.aload_n 0, 1) := dk_42 (dk_at dksL_law_35 7 rfl rfl)
theorem dL_law_955 : decode cL_law 955 = .ok (.iload 5, 2) := dk_21 5 (dk_at dksL_law_35 8 rfl rfl)
theorem dL_law_957 : decode cL_law 957 = .ok (.iconst 3, 1) := dk_6 (dk_at dksL_law_35 10 rfl rfl)
theorem dL_law_958 : decode cL_law 958 = .ok (.iadd, 1) := dk_96 (dk_at dksL_law_35 11 rfl rfl)
theorem dL_law_959 : decode cL_law 959 = .ok (.iaload, 1) := dk_46 (dk_at dksL_law_35 12 rfl rfl)
theorem dL_law_960 : decode cL_law 960 = .ok (.aload_n 3, 1) := dk_45 (dk_at dksL_law_35 13 rfl rfl)
theorem dL_law_961 : decode cL_law 961 = .ok (.invokestatic 178, 3) := dk_184 0 178 (dk_at dksL_law_35 14 rfl rfl)
theorem dL_law_964 : decode cL_law 964 = .ok (.istore 6, 2) := dk_54 6 (dk_at dksL_law_35 17 rfl rfl)
theorem dL_law_966 : decode cL_law 966 = .ok (.aload_n 2, 1) := dk_44 (dk_at dksL_law_35 19 rfl rfl)
theorem dL_law_967 : decode cL_law 967 = .ok (.aload_n 0, 1) := dk_42 (dk_at dksL_law_35 20 rfl rfl)
theorem dL_law_968 : decode cL_law 968 = .ok (.iload 5, 2) := dk_21 5 (dk_at dksL_law_35 21 rfl rfl)
theorem dL_law_970 : decode cL_law 970 = .ok (.iconst 1, 1) := dk_4 (dk_at dksL_law_35 23 rfl rfl)
theorem dL_law_971 : decode cL_law 971 = .ok (.iadd, 1) := dk_96 (dk_at dksL_law_36 0 rfl rfl)
theorem dL_law_972 : decode cL_law 972 = .ok (.iaload, 1) := dk_46 (dk_at dksL_law_36 1 rfl rfl)
theorem dL_law_973 : decode cL_law 973 = .ok (.aload_n 0, 1) := dk_42 (dk_at dksL_law_36 2 rfl rfl)
theorem dL_law_974 : decode cL_law 974 = .ok (.iload 5, 2) := dk_21 5 (dk_at dksL_law_36 3 rfl rfl)
theorem dL_law_976 : decode cL_law 976 = .ok (.iconst 2, 1) := dk_5 (dk_at dksL_law_36 5 rfl rfl)
theorem dL_law_977 : decode cL_law 977 = .ok (.iadd, 1) := dk_96 (dk_at dksL_law_36 6 rfl rfl)
theorem dL_law_978 : decode cL_law 978 = .ok (.iaload, 1) := dk_46 (dk_at dksL_law_36 7 rfl rfl)
theorem dL_law_979 : decode cL_law 979 = .ok (.aload_n 0, 1) := dk_42 (dk_at dksL_law_36 8 rfl rfl)
theorem dL_law_980 : decode cL_law 980 = .ok (.iload 5, 2) := dk_21 5 (dk_at dksL_law_36 9 rfl rfl)
theorem dL_law_982 : decode cL_law 982 = .ok (.iconst 3, 1) := dk_6 (dk_at dksL_law_36 11 rfl rfl)
theorem dL_law_983 : decode cL_law 983 = .ok (.iadd, 1) := dk_96 (dk_at dksL_law_36 12 rfl rfl)
theorem dL_law_984 : decode cL_law 984 = .ok (.iaload, 1) := dk_46 (dk_at dksL_law_36 13 rfl rfl)
theorem dL_law_985 : decode cL_law 985 = .ok (.invokevirtual 181, 3) := dk_182 0 181 (dk_at dksL_law_36 14 rfl rfl)
theorem dL_law_988 : decode cL_law 988 = .ok (.istore 7, 2) := dk_54 7 (dk_at dksL_law_36 17 rfl rfl)
theorem dL_law_990 : decode cL_law 990 = .ok (.aload_n 2, 1) := dk_44 (dk_at dksL_law_36 19 rfl rfl)
theorem dL_law_991 : decode cL_law 991 = .ok (.invokevirtual 135, 3) := dk_182 0 135 (dk_at dksL_law_36 20 rfl rfl)
theorem dL_law_994 : decode cL_law 994 = .ok (.iload 6, 2) := dk_21 6 (dk_at dksL_law_37 0 rfl rfl)
theorem dL_law_996 : decode cL_law 996 = .ok (.if_icmp .eq 5, 3) := dk_159 0 5 (dk_at dksL_law_37 2 rfl rfl)
theorem dL_law_999 : decode cL_law 999 = .ok (.iconst 0, 1) := dk_3 (dk_at dksL_law_37 5 rfl rfl)
theorem dL_law_1000 : decode cL_law 1000 = .ok (.ireturn, 1) := dk_172 (dk_at dksL_law_37 6 rfl rfl)
theorem dL_law_1001 : decode cL_law 1001 = .ok (.iload 6, 2) := dk_21 6 (dk_at dksL_law_37 7 rfl rfl)
theorem dL_law_1003 : decode cL_law 1003 = .ok (.ifCond .ne 15, 3) := dk_154 0 15 (dk_at dksL_law_37 9 rfl rfl)
theorem dL_law_1006 : decode cL_law 1006 = .ok (.aload_n 3, 1) := dk_45 (dk_at dksL_law_37 12 rfl rfl)
theorem dL_law_1007 : decode cL_law 1007 = .ok (.iconst 0, 1) := dk_3 (dk_at dksL_law_37 13 rfl rfl)
theorem dL_law_1008 : decode cL_law 1008 = .ok (.laload, 1) := dk_47 (dk_at dksL_law_37 14 rfl rfl)
theorem dL_law_1009 : decode cL_law 1009 = .ok (.iload 7, 2) := dk_21 7 (dk_at dksL_law_37 15 rfl rfl)
theorem dL_law_1011 : decode cL_law 1011 = .ok (.i2l, 1) := dk_133 (dk_at dksL_law_37 17 rfl rfl)
theorem dL_law_1012 : decode cL_law 1012 = .ok (.lcmp, 1) := dk_148 (dk_at dksL_law_37 18 rfl rfl)
theorem dL_law_1013 : decode cL_law 1013 = .ok (.ifCond .eq 5, 3) := dk_153 0 5 (dk_at dksL_law_37 19 rfl rfl)
theorem dL_law_1016 : decode cL_law 1016 = .ok (.iconst 0, 1) := dk_3 (dk_at dksL_law_37 22 rfl rfl)
theorem dL_law_1017 : decode cL_law 1017 = .ok (.ireturn, 1) := dk_172 (dk_at dksL_law_37 23 rfl rfl)
theorem dL_law_1018 : decode cL_law 1018 = .ok (.goto 1154, 3) := dk_167 4 130 (dk_at dksL_law_38 0 rfl rfl)
theorem dL_law_1021 : decode cL_law 1021 = .ok (.aload_n 1, 1) := dk_43 (dk_at dksL_law_38 3 rfl rfl)
theorem dL_law_1022 : decode cL_law 1022 = .ok (.aload_n 0, 1) := dk_42 (dk_at dksL_law_38 4 rfl rfl)
theorem dL_law_1023 : decode cL_law 1023 = .ok (.iload 5, 2) := dk_21 5 (dk_at dksL_law_38 5 rfl rfl)
theorem dL_law_1025 : decode cL_law 1025 = .ok (.iconst 1, 1) := dk_4 (dk_at dksL_law_38 7 rfl rfl)
theorem dL_law_1026 : decode cL_law 1026 = .ok (.iadd, 1) := dk_96 (dk_at dksL_law_38 8 rfl rfl)
theorem dL_law_1027 : decode cL_law 1027 = .ok (.iaload, 1) := dk_46 (dk_at dksL_law_38 9 rfl rfl)
theorem dL_law_1028 : decode cL_law 1028 = .ok (.aload_n 3, 1) := dk_45 (dk_at dksL_law_38 10 rfl rfl)
theorem dL_law_1029 : decode cL_law 1029 = .ok (.invokestatic 182, 3) := dk_184 0 182 (dk_at dksL_law_38 11 rfl rfl)
theorem dL_law_1032 : decode cL_law 1032 = .ok (.istore 6, 2) := dk_54 6 (dk_at dksL_law_38 14 rfl rfl)
theorem dL_law_1034 : decode cL_law 1034 = .ok (.aload_n 2, 1) := dk_44 (dk_at dksL_law_38 16 rfl rfl)
theorem dL_law_1035 : decode cL_law 1035 = .ok (.aload_n 0, 1) := dk_42 (dk_at dksL_law_38 17 rfl rfl)
theorem dL_law_1036 : decode cL_law 1036 = .ok (.iload 5, 2) := dk_21 5 (dk_at dksL_law_38 18 rfl rfl)
theorem dL_law_1038 : decode cL_law 1038 = .ok (.iconst 1, 1) := dk_4 (dk_at dksL_law_38 20 rfl rfl)
theorem dL_law_1039 : decode cL_law 1039 = .ok (.iadd, 1) := dk_96 (dk_at dksL_law_38 21 rfl rfl)
theorem dL_law_1040 : decode cL_law 1040 = .ok (.iaload, 1) := dk_46 (dk_at dksL_law_38 22 rfl rfl)
theorem dL_law_1041 : decode cL_law 1041 = .ok (.invokevirtual 184, 3) := dk_182 0 184 (dk_at dksL_law_39 0 rfl rfl)
theorem dL_law_1044 : decode cL_law 1044 = .ok (.istore 7, 2) := dk_54 7 (dk_at dksL_law_39 3 rfl rfl)
theorem dL_law_1046 : decode cL_law 1046 = .ok (.aload_n 2, 1) := dk_44 (dk_at dksL_law_39 5 rfl rfl)
theorem dL_law_1047 : decode cL_law 1047 = .ok (.invokevirtual 135, 3) := dk_182 0 135 (dk_at dksL_law_39 6 rfl rfl)
theorem dL_law_1050 : decode cL_law 1050 = .ok (.iload 6, 2) := dk_21 6 (dk_at dksL_law_39 9 rfl rfl)
theorem dL_law_1052 : decode cL_law 1052 = .ok (.if_icmp .eq 5, 3) := dk_159 0 5 (dk_at dksL_law_39 11 rfl rfl)
theorem dL_law_1055 : decode cL_law 1055 = .ok (.iconst 0, 1) := dk_3 (dk_at dksL_law_39 14 rfl rfl)
theorem dL_law_1056 : decode cL_law 1056 = .ok (.ireturn, 1) := dk_172 (dk_at dksL_law_39 15 rfl rfl)
theorem dL_law_1057 : decode cL_law 1057 = .ok (.iload 6, 2) := dk_21 6 (dk_at dksL_law_39 16 rfl rfl)
theorem dL_law_1059 : decode cL_law 1059 = .ok (.ifCond .ne 15, 3) := dk_154 0 15 (dk_at dksL_law_39 18 rfl rfl)
theorem dL_law_1062 : decode cL_law 1062 = .ok (.aload_n 3, 1) := dk_45 (dk_at dksL_law_39 21 rfl rfl)
theorem dL_law_1063 : decode cL_law 1063 = .ok (.iconst 0, 1) := dk_3 (dk_at dksL_law_39 22 rfl rfl)
theorem dL_law_1064 : decode cL_law 1064 = .ok (.laload, 1) := dk_47 (dk_at dksL_law_39 23 rfl rfl)
theorem dL_law_1065 : decode cL_law 1065 = .ok (.iload 7, 2) := dk_21 7 (dk_at dksL_law_40 0 rfl rfl)
theorem dL_law_1067 : decode cL_law 1067 = .ok (.i2l, 1) := dk_133 (dk_at dksL_law_40 2 rfl rfl)
theorem dL_law_1068 : decode cL_law 1068 = .ok (.lcmp, 1) := dk_148 (dk_at dksL_law_40 3 rfl rfl)
theorem dL_law_1069 : decode cL_law 1069 = .ok (.ifCond .eq 5, 3) := dk_153 0 5 (dk_at dksL_law_40 4 rfl rfl)
theorem dL_law_1072 : decode cL_law 1072 = .ok (.iconst 0, 1) := dk_3 (dk_at dksL_law_40 7 rfl rfl)
theorem dL_law_1073 : decode cL_law 1073 = .ok (.ireturn, 1) := dk_172 (dk_at dksL_law_40 8 rfl rfl)
theorem dL_law_1074 : decode cL_law 1074 = .ok (.goto 1098, 3) := dk_167 4 74 (dk_at dksL_law_40 9 rfl rfl)
theorem dL_law_1077 : decode cL_law 1077 = .ok (.aload_n 1, 1) := dk_43 (dk_at dksL_law_40 12 rfl rfl)
theorem dL_law_1078 : decode cL_law 1078 = .ok (.aload_n 0, 1) := dk_42 (dk_at dksL_law_40 13 rfl rfl)
theorem dL_law_1079 : decode cL_law 1079 = .ok (.iload 5, 2) := dk_21 5 (dk_at dksL_law_40 14 rfl rfl)
theorem dL_law_1081 : decode cL_law 1081 = .ok (.iconst 1, 1) := dk_4 (dk_at dksL_law_40 16 rfl rfl)
theorem dL_law_1082 : decode cL_law 1082 = .ok (.iadd, 1) := dk_96 (dk_at dksL_law_40 17 rfl rfl)
theorem dL_law_1083 : decode cL_law 1083 = .ok (.iaload, 1) := dk_46 (dk_at dksL_law_40 18 rfl rfl)
theorem dL_law_1084 : decode cL_law 1084 = .ok (.aload_n 3, 1) := dk_45 (dk_at dksL_law_40 19 rfl rfl)
theorem dL_law_1085 : decode cL_law 1085 = .ok (.invokestatic 185, 3) := dk_184 0 185 (dk_at dksL_law_40 20 rfl rfl)
theorem dL_law_1088 : decode cL_law 1088 = .ok (.istore 6, 2) := dk_54 6 (dk_at dksL_law_41 0 rfl rfl)
theorem dL_law_1090 : decode cL_law 1090 = .ok (.aload_n 2, 1) := dk_44 (dk_at dksL_law_41 2 rfl rfl)
theorem dL_law_1091 : decode cL_law 1091 = .ok (.aload_n 0, 1) := dk_42 (dk_at dksL_law_41 3 rfl rfl)
theorem dL_law_1092 : decode cL_law 1092 = .ok (.iload 5, 2) := dk_21 5 (dk_at dksL_law_41 4 rfl rfl)
theorem dL_law_1094 : decode cL_law 1094 = .ok (.iconst 1, 1) := dk_4 (dk_at dksL_law_41 6 rfl rfl)
theorem dL_law_1095 : decode cL_law 1095 = .ok (.iadd, 1) := dk_96 (dk_at dksL_law_41 7 rfl rfl)
theorem dL_law_1096 : decode cL_law 1096 = .ok (.iaload, 1) := dk_46 (dk_at dksL_law_41 8 rfl rfl)
theorem dL_law_1097 : decode cL_law 1097 = .ok (.invokevirtual 187, 3) := dk_182 0 187 (dk_at dksL_law_41 9 rfl rfl)
theorem dL_law_1100 : decode cL_law 1100 = .ok (.istore 7, 2) := dk_54 7 (dk_at dksL_law_41 12 rfl rfl)
theorem dL_law_1102 : decode cL_law 1102 = .ok (.aload_n 2, 1) := dk_44 (dk_at dksL_law_41 14 rfl rfl)
theorem dL_law_1103 : decode cL_law 1103 = .ok (.invokevirtual 135, 3) := dk_182 0 135 (dk_at dksL_law_41 15 rfl rfl)
theorem dL_law_1106 : decode cL_law 1106 = .ok (.iload 6, 2) := dk_21 6 (dk_at dksL_law_41 18 rfl rfl)
theorem dL_law_1108 : decode cL_law 1108 = .ok (.if_icmp .eq 5, 3) := dk_159 0 5 (dk_at dksL_law_41 20 rfl rfl)
theorem dL_law_1111 : decode cL_law 1111 = .ok (.iconst 0, 1) := dk_3 (dk_at dksL_law_41 23 rfl rfl)
theorem dL_law_1112 : decode cL_law 1112 = .ok (.ireturn, 1) := dk_172 (dk_at dksL_law_42 0 rfl rfl)
theorem dL_law_1113 : decode cL_law 1113 = .ok (.iload 6, 2) := dk_21 6 (dk_at dksL_law_42 1 rfl rfl)
theorem dL_law_1115 : decode cL_law 1115 = .ok (.ifCond .ne 15, 3) := dk_154 0 15 (dk_at dksL_law_42 3 rfl rfl)
theorem dL_law_1118 : decode cL_law 1118 = .ok (.aload_n 3, 1) := dk_45 (dk_at dksL_law_42 6 rfl rfl)
theorem dL_law_1119 : decode cL_law 1119 = .ok (.iconst 0, 1) := dk_3 (dk_at dksL_law_42 7 rfl rfl)
theorem dL_law_1120 : decode cL_law 1120 = .ok (.laload, 1) := dk_47 (dk_at dksL_law_42 8 rfl rfl)
theorem dL_law_1121 : decode cL_law 1121 = .ok (.iload 7, 2) := dk_21 7 (dk_at dksL_law_42 9 rfl rfl)
theorem dL_law_1123 : decode cL_law 1123 = .ok (.i2l, 1) := dk_133 (dk_at dksL_law_42 11 rfl rfl)
theorem dL_law_1124 : decode cL_law 1124 = .ok (.lcmp, 1) := dk_148 (dk_at dksL_law_42 12 rfl rfl)
theorem dL_law_1125 : decode cL_law 1125 = .ok (.ifCond .eq 5, 3) := dk_153 0 5 (dk_at dksL_law_42 13 rfl rfl)
theorem dL_law_1128 : decode cL_law 1128 = .ok (.iconst 0, 1) := dk_3 (dk_at dksL_law_42 16 rfl rfl)
theorem dL_law_1129 : decode cL_law 1129 = .ok (.ireturn, 1) := dk_172 (dk_at dksL_law_42 17 rfl rfl)
theorem dL_law_1130 : decode cL_law 1130 = .ok (.goto 1042, 3) := dk_167 4 18 (dk_at dksL_law_42 18 rfl rfl)
theorem dL_law_1133 : decode cL_law 1133 = .ok (.aload_n 1, 1) := dk_43 (dk_at dksL_law_42 21 rfl rfl)
theorem dL_law_1134 : decode cL_law 1134 = .ok (.aload_n 0, 1) := dk_42 (dk_at dksL_law_42 22 rfl rfl)
theorem dL_law_1135 : decode cL_law 1135 = .ok (.iload 5, 2) := dk_21 5 (dk_at dksL_law_43 0 rfl rfl)
theorem dL_law_1137 : decode cL_law 1137 = .ok (.iconst 1, 1) := dk_4 (dk_at dksL_law_43 2 rfl rfl)
theorem dL_law_1138 : decode cL_law 1138 = .ok (.iadd, 1) := dk_96 (dk_at dksL_law_43 3 rfl rfl)
theorem dL_law_1139 : decode cL_law 1139 = .ok (.iaload, 1) := dk_46 (dk_at dksL_law_43 4 rfl rfl)
theorem dL_law_1140 : decode cL_law 1140 = .ok (.aload_n 0, 1) := dk_42 (dk_at dksL_law_43 5 rfl rfl)
theorem dL_law_1141 : decode cL_law 1141 = .ok (.iload 5, 2) := dk_21 5 (dk_at dksL_law_43 6 rfl rfl)
theorem dL_law_1143 : decode cL_law 1143 = .ok (.iconst 2, 1) := dk_5 (dk_at dksL_law_43 8 rfl rfl)
theorem dL_law_1144 : decode cL_law 1144 = .ok (.iadd, 1) := dk_96 (dk_at dksL_law_43 9 rfl rfl)
theorem dL_law_1145 : decode cL_law 1145 = .ok (.iaload, 1) := dk_46 (dk_at dksL_law_43 10 rfl rfl)
theorem dL_law_1146 : decode cL_law 1146 = .ok (.aload_n 3, 1) := dk_45 (dk_at dksL_law_43 11 rfl rfl)
theorem dL_law_1147 : decode cL_law 1147 = .ok (.invokestatic 188, 3) := dk_184 0 188 (dk_at dksL_law_43 12 rfl rfl)
theorem dL_law_1150 : decode cL_law 1150 = .ok (.istore 6, 2) := dk_54 6 (dk_at dksL_law_43 15 rfl rfl)
theorem dL_law_1152 : decode cL_law 1152 = .ok (.aload_n 2, 1) := dk_44 (dk_at dksL_law_43 17 rfl rfl)
theorem dL_law_1153 : decode cL_law 1153 = .ok (.aload_n 0, 1) := dk_42 (dk_at dksL_law_43 18 rfl rfl)
theorem dL_law_1154 : decode cL_law 1154 = .ok (.iload 5, 2) := dk_21 5 (dk_at dksL_law_43 19 rfl rfl)
theorem dL_law_1156 : decode cL_law 1156 = .ok (.iconst 1, 1) := dk_4 (dk_at dksL_law_43 21 rfl rfl)
theorem dL_law_1157 : decode cL_law 1157 = .ok (.iadd, 1) := dk_96 (dk_at dksL_law_43 22 rfl rfl)
theorem dL_law_1158 : decode cL_law 1158 = .ok (.iaload, 1) := dk_46 (dk_at dksL_law_43 23 rfl rfl)
theorem dL_law_1159 : decode cL_law 1159 = .ok (.aload_n 0, 1) := dk_42 (dk_at dksL_law_44 0 rfl rfl)
theorem dL_law_1160 : decode cL_law 1160 = .ok (.iload 5, 2) := dk_21 5 (dk_at dksL_law_44 1 rfl rfl)
theorem dL_law_1162 : decode cL_law 1162 = .ok (.iconst 2, 1) := dk_5 (dk_at dksL_law_44 3 rfl rfl)
theorem dL_law_1163 : decode cL_law 1163 = .ok (.iadd, 1) := dk_96 (dk_at dksL_law_44 4 rfl rfl)
theorem dL_law_1164 : decode cL_law 1164 = .ok (.iaload, 1) := dk_46 (dk_at dksL_law_44 5 rfl rfl)
theorem dL_law_1165 : decode cL_law 1165 = .ok (.invokevirtual 190, 3) := dk_182 0 190 (dk_at dksL_law_44 6 rfl rfl)
theorem dL_law_1168 : decode cL_law 1168 = .ok (.istore 7, 2) := dk_54 7 (dk_at dksL_law_44 9 rfl rfl)
theorem dL_law_1170 : decode cL_law 1170 = .ok (.aload_n 2, 1) := dk_44 (dk_at dksL_law_44 11 rfl rfl)
theorem dL_law_1171 : decode cL_law 1171 = .ok (.invokevirtual 135, 3) := dk_182 0 135 (dk_at dksL_law_44 12 rfl rfl)
theorem dL_law_1174 : decode cL_law 1174 = .ok (.iload 6, 2) := dk_21 6 (dk_at dksL_law_44 15 rfl rfl)
theorem dL_law_1176 : decode cL_law 1176 = .ok (.if_icmp .eq 5, 3) := dk_159 0 5 (dk_at dksL_law_44 17 rfl rfl)
theorem dL_law_1179 : decode cL_law 1179 = .ok (.iconst 0, 1) := dk_3 (dk_at dksL_law_44 20 rfl rfl)
theorem dL_law_1180 : decode cL_law 1180 = .ok (.ireturn, 1) := dk_172 (dk_at dksL_law_44 21 rfl rfl)
theorem dL_law_1181 : decode cL_law 1181 = .ok (.iload 6, 2) := dk_21 6 (dk_at dksL_law_44 22 rfl rfl)
theorem dL_law_1183 : decode cL_law 1183 = .ok (.ifCond .ne 15, 3) := dk_154 0 15 (dk_at dksL_law_45 0 rfl rfl)
theorem dL_law_1186 : decode cL_law 1186 = .ok (.aload_n 3, 1) := dk_45 (dk_at dksL_law_45 3 rfl rfl)
theorem dL_law_1187 : decode cL_law 1187 = .ok (.iconst 0, 1) := dk_3 (dk_at dksL_law_45 4 rfl rfl)
theorem dL_law_1188 : decode cL_law 1188 = .ok (.laload, 1) := dk_47 (dk_at dksL_law_45 5 rfl rfl)
theorem dL_law_1189 : decode cL_law 1189 = .ok (.iload 7, 2) := dk_21 7 (dk_at dksL_law_45 6 rfl rfl)
theorem dL_law_1191 : decode cL_law 1191 = .ok (.i2l, 1) := dk_133 (dk_at dksL_law_45 8 rfl rfl)
theorem dL_law_1192 : decode cL_law 1192 = .ok (.lcmp, 1) := dk_148 (dk_at dksL_law_45 9 rfl rfl)
theorem dL_law_1193 : decode cL_law 1193 = .ok (.ifCond .eq 5, 3) := dk_153 0 5 (dk_at dksL_law_45 10 rfl rfl)
theorem dL_law_1196 : decode cL_law 1196 = .ok (.iconst 0, 1) := dk_3 (dk_at dksL_law_45 13 rfl rfl)
theorem dL_law_1197 : decode cL_law 1197 = .ok (.ireturn, 1) := dk_172 (dk_at dksL_law_45 14 rfl rfl)
theorem dL_law_1198 : decode cL_law 1198 = .ok (.goto 974, 3) := dk_167 3 206 (dk_at dksL_law_45 15 rfl rfl)
theorem dL_law_1201 : decode cL_law 1201 = .ok (.aload_n 1, 1) := dk_43 (dk_at dksL_law_45 18 rfl rfl)
theorem dL_law_1202 : decode cL_law 1202 = .ok (.aload_n 0, 1) := dk_42 (dk_at dksL_law_45 19 rfl rfl)
theorem dL_law_1203 : decode cL_law 1203 = .ok (.iload 5, 2) := dk_21 5 (dk_at dksL_law_45 20 rfl rfl)
theorem dL_law_1205 : decode cL_law 1205 = .ok (.iconst 1, 1) := dk_4 (dk_at dksL_law_45 22 rfl rfl)
theorem dL_law_1206 : decode cL_law 1206 = .ok (.iadd, 1) := dk_96 (dk_at dksL_law_45 23 rfl rfl)
theorem dL_law_1207 : decode cL_law 1207 = .ok (.iaload, 1) := dk_46 (dk_at dksL_law_46 0 rfl rfl)
theorem dL_law_1208 : decode cL_law 1208 = .ok (.aload_n 3, 1) := dk_45 (dk_at dksL_law_46 1 rfl rfl)
theorem dL_law_1209 : decode cL_law 1209 = .ok (.invokestatic 191, 3) := dk_184 0 191 (dk_at dksL_law_46 2 rfl rfl)
theorem dL_law_1212 : decode cL_law 1212 = .ok (.istore 6, 2) := dk_54 6 (dk_at dksL_law_46 5 rfl rfl)
theorem dL_law_1214 : decode cL_law 1214 = .ok (.aload_n 2, 1) := dk_44 (dk_at dksL_law_46 7 rfl rfl)
theorem dL_law_1215 : decode cL_law 1215 = .ok (.aload_n 0, 1) := dk_42 (dk_at dksL_law_46 8 rfl rfl)
theorem dL_law_1216 : decode cL_law 1216 = .ok (.iload 5, 2) := dk_21 5 (dk_at dksL_law_46 9 rfl rfl)
theorem dL_law_1218 : decode cL_law 1218 = .ok (.iconst 1, 1) := dk_4 (dk_at dksL_law_46 11 rfl rfl)
theorem dL_law_1219 : decode cL_law 1219 = .ok (.iadd, 1) := dk_96 (dk_at dksL_law_46 12 rfl rfl)
theorem dL_law_1220 : decode cL_law 1220 = .ok (.iaload, 1) := dk_46 (dk_at dksL_law_46 13 rfl rfl)
theorem dL_law_1221 : decode cL_law 1221 = .ok (.invokevirtual 193, 3) := dk_182 0 193 (dk_at dksL_law_46 14 rfl rfl)
theorem dL_law_1224 : decode cL_law 1224 = .ok (.istore 7, 2) := dk_54 7 (dk_at dksL_law_46 17 rfl rfl)
theorem dL_law_1226 : decode cL_law 1226 = .ok (.aload_n 2, 1) := dk_44 (dk_at dksL_law_46 19 rfl rfl)
theorem dL_law_1227 : decode cL_law 1227 = .ok (.invokevirtual 135, 3) := dk_182 0 135 (dk_at dksL_law_46 20 rfl rfl)
theorem dL_law_1230 : decode cL_law 1230 = .ok (.iload 6, 2) := dk_21 6 (dk_at dksL_law_47 0 rfl rfl)
theorem dL_law_1232 : decode cL_law 1232 = .ok (.if_icmp .eq 5, 3) := dk_159 0 5 (dk_at dksL_law_47 2 rfl rfl)
theorem dL_law_1235 : decode cL_law 1235 = .ok (.iconst 0, 1) := dk_3 (dk_at dksL_law_47 5 rfl rfl)
theorem dL_law_1236 : decode cL_law 1236 = .ok (.ireturn, 1) := dk_172 (dk_at dksL_law_47 6 rfl rfl)
theorem dL_law_1237 : decode cL_law 1237 = .ok (.iload 6, 2) := dk_21 6 (dk_at dksL_law_47 7 rfl rfl)
theorem dL_law_1239 : decode cL_law 1239 = .ok (.ifCond .ne 15, 3) := dk_154 0 15 (dk_at dksL_law_47 9 rfl rfl)
theorem dL_law_1242 : decode cL_law 1242 = .ok (.aload_n 3, 1) := dk_45 (dk_at dksL_law_47 12 rfl rfl)
theorem dL_law_1243 : decode cL_law 1243 = .ok (.iconst 0, 1) := dk_3 (dk_at dksL_law_47 13 rfl rfl)
theorem dL_law_1244 : decode cL_law 1244 = .ok (.laload, 1) := dk_47 (dk_at dksL_law_47 14 rfl rfl)
theorem dL_law_1245 : decode cL_law 1245 = .ok (.iload 7, 2) := dk_21 7 (dk_at dksL_law_47 15 rfl rfl)
theorem dL_law_1247 : decode cL_law 1247 = .ok (.i2l, 1) := dk_133 (dk_at dksL_law_47 17 rfl rfl)
theorem dL_law_1248 : decode cL_law 1248 = .ok (.lcmp, 1) := dk_148 (dk_at dksL_law_47 18 rfl rfl)
theorem dL_law_1249 : decode cL_law 1249 = .ok (.ifCond .eq 5, 3) := dk_153 0 5 (dk_at dksL_law_47 19 rfl rfl)
theorem dL_law_1252 : decode cL_law 1252 = .ok (.iconst 0, 1) := dk_3 (dk_at dksL_law_47 22 rfl rfl)
theorem dL_law_1253 : decode cL_law 1253 = .ok (.ireturn, 1) := dk_172 (dk_at dksL_law_47 23 rfl rfl)
theorem dL_law_1254 : decode cL_law 1254 = .ok (.goto 918, 3) := dk_167 3 150 (dk_at dksL_law_48 0 rfl rfl)
theorem dL_law_1257 : decode cL_law 1257 = .ok (.aload_n 1, 1) := dk_43 (dk_at dksL_law_48 3 rfl rfl)
theorem dL_law_1258 : decode cL_law 1258 = .ok (.aload_n 0, 1) := dk_42 (dk_at dksL_law_48 4 rfl rfl)
theorem dL_law_1259 : decode cL_law 1259 = .ok (.iload 5, 2) := dk_21 5 (dk_at dksL_law_48 5 rfl rfl)
theorem dL_law_1261 : decode cL_law 1261 = .ok (.iconst 1, 1) := dk_4 (dk_at dksL_law_48 7 rfl rfl)
theorem dL_law_1262 : decode cL_law 1262 = .ok (.iadd, 1) := dk_96 (dk_at dksL_law_48 8 rfl rfl)
theorem dL_law_1263 : decode cL_law 1263 = .ok (.iaload, 1) := dk_46 (dk_at dksL_law_48 9 rfl rfl)
theorem dL_law_1264 : decode cL_law 1264 = .ok (.aload_n 3, 1) := dk_45 (dk_at dksL_law_48 10 rfl rfl)
theorem dL_law_1265 : decode cL_law 1265 = .ok (.invokestatic 194, 3) := dk_184 0 194 (dk_at dksL_law_48 11 rfl rfl)
theorem dL_law_1268 : decode cL_law 1268 = .ok (.istore 6, 2) := dk_54 6 (dk_at dksL_law_48 14 rfl rfl)
theorem dL_law_1270 : decode cL_law 1270 = .ok (.aload_n 2, 1) := dk_44 (dk_at dksL_law_48 16 rfl rfl)
theorem dL_law_1271 : decode cL_law 1271 = .ok (.aload_n 0, 1) := dk_42 (dk_at dksL_law_48 17 rfl rfl)
theorem dL_law_1272 : decode cL_law 1272 = .ok (.iload 5, 2) := dk_21 5 (dk_at dksL_law_48 18 rfl rfl)
theorem dL_law_1274 : decode cL_law 1274 = .ok (.iconst 1, 1) := dk_4 (dk_at dksL_law_48 20 rfl rfl)
theorem dL_law_1275 : decode cL_law 1275 = .ok (.iadd, 1) := dk_96 (dk_at dksL_law_48 21 rfl rfl)
theorem dL_law_1276 : decode cL_law 1276 = .ok (.iaload, 1) := dk_46 (dk_at dksL_law_48 22 rfl rfl)
theorem dL_law_1277 : decode cL_law 1277 = .ok (.invokevirtual 196, 3) := dk_182 0 196 (dk_at dksL_law_49 0 rfl rfl)
theorem dL_law_1280 : decode cL_law 1280 = .ok (.istore 7, 2) := dk_54 7 (dk_at dksL_law_49 3 rfl rfl)
theorem dL_law_1282 : decode cL_law 1282 = .ok (.aload_n 2, 1) := dk_44 (dk_at dksL_law_49 5 rfl rfl)
theorem dL_law_1283 : decode cL_law 1283 = .ok (.invokevirtual 135, 3) := dk_182 0 135 (dk_at dksL_law_49 6 rfl rfl)
theorem dL_law_1286 : decode cL_law 1286 = .ok (.iload 6, 2) := dk_21 6 (dk_at dksL_law_49 9 rfl rfl)
theorem dL_law_1288 : decode cL_law 1288 = .ok (.if_icmp .eq 5, 3) := dk_159 0 5 (dk_at dksL_law_49 11 rfl rfl)
theorem dL_law_1291 : decode cL_law 1291 = .ok (.iconst 0, 1) := dk_3 (dk_at dksL_law_49 14 rfl rfl)
theorem dL_law_1292 : decode cL_law 1292 = .ok (.ireturn, 1) := dk_172 (dk_at dksL_law_49 15 rfl rfl)
theorem dL_law_1293 : decode cL_law 1293 = .ok (.iload 6, 2) := dk_21 6 (dk_at dksL_law_49 16 rfl rfl)
theorem dL_law_1295 : decode cL_law 1295 = .ok (.ifCond .ne 15, 3) := dk_154 0 15 (dk_at dksL_law_49 18 rfl rfl)
theorem dL_law_1298 : decode cL_law 1298 = .ok (.aload_n 3, 1) := dk_45 (dk_at dksL_law_49 21 rfl rfl)
theorem dL_law_1299 : decode cL_law 1299 = .ok (.iconst 0, 1) := dk_3 (dk_at dksL_law_49 22 rfl rfl)
theorem dL_law_1300 : decode cL_law 1300 = .ok (.laload, 1) := dk_47 (dk_at dksL_law_49 23 rfl rfl)
theorem dL_law_1301 : decode cL_law 1301 = .ok (.iload 7, 2) := dk_21 7 (dk_at dksL_law_50 0 rfl rfl)
theorem dL_law_1303 : decode cL_law 1303 = .ok (.i2l, 1) := dk_133 (dk_at dksL_law_50 2 rfl rfl)
theorem dL_law_1304 : decode cL_law 1304 = .ok (.lcmp, 1) := dk_148 (dk_at dksL_law_50 3 rfl rfl)
theorem dL_law_1305 : decode cL_law 1305 = .ok (.ifCond .eq 5, 3) := dk_153 0 5 (dk_at dksL_law_50 4 rfl rfl)
theorem dL_law_1308 : decode cL_law 1308 = .ok (.iconst 0, 1) := dk_3 (dk_at dksL_law_50 7 rfl rfl)
theorem dL_law_1309 : decode cL_law 1309 = .ok (.ireturn, 1) := dk_172 (dk_at dksL_law_50 8 rfl rfl)
theorem dL_law_1310 : decode cL_law 1310 = .ok (.goto 862, 3) := dk_167 3 94 (dk_at dksL_law_50 9 rfl rfl)
theorem dL_law_1313 : decode cL_law 1313 = .ok (.aload_n 1, 1) := dk_43 (dk_at dksL_law_50 12 rfl rfl)
theorem dL_law_1314 : decode cL_law 1314 = .ok (.aload_n 0, 1) := dk_42 (dk_at dksL_law_50 13 rfl rfl)
theorem dL_law_1315 : decode cL_law 1315 = .ok (.iload 5, 2) := dk_21 5 (dk_at dksL_law_50 14 rfl rfl)
theorem dL_law_1317 : decode cL_law 1317 = .ok (.iconst 1, 1) := dk_4 (dk_at dksL_law_50 16 rfl rfl)
theorem dL_law_1318 : decode cL_law 1318 = .ok (.iadd, 1) := dk_96 (dk_at dksL_law_50 17 rfl rfl)
theorem dL_law_1319 : decode cL_law 1319 = .ok (.iaload, 1) := dk_46 (dk_at dksL_law_50 18 rfl rfl)
theorem dL_law_1320 : decode cL_law 1320 = .ok (.aload_n 3, 1) := dk_45 (dk_at dksL_law_50 19 rfl rfl)
theorem dL_law_1321 : decode cL_law 1321 = .ok (.invokestatic 197, 3) := dk_184 0 197 (dk_at dksL_law_50 20 rfl rfl)
theorem dL_law_1324 : decode cL_law 1324 = .ok (.istore 6, 2) := dk_54 6 (dk_at dksL_law_51 0 rfl rfl)
theorem dL_law_1326 : decode cL_law 1326 = .ok (.aload_n 2, 1) := dk_44 (dk_at dksL_law_51 2 rfl rfl)
theorem dL_law_1327 : decode cL_law 1327 = .ok (.aload_n 0, 1) := dk_42 (dk_at dksL_law_51 3 rfl rfl)
theorem dL_law_1328 : decode cL_law 1328 = .ok (.iload 5, 2) := dk_21 5 (dk_at dksL_law_51 4 rfl rfl)
theorem dL_law_1330 : decode cL_law 1330 = .ok (.iconst 1, 1) := dk_4 (dk_at dksL_law_51 6 rfl rfl)
theorem dL_law_1331 : decode cL_law 1331 = .ok (.iadd, 1) := dk_96 (dk_at dksL_law_51 7 rfl rfl)
theorem dL_law_1332 : decode cL_law 1332 = .ok (.iaload, 1) := dk_46 (dk_at dksL_law_51 8 rfl rfl)
theorem dL_law_1333 : decode cL_law 1333 = .ok (.invokevirtual 199, 3) := dk_182 0 199 (dk_at dksL_law_51 9 rfl rfl)
theorem dL_law_1336 : decode cL_law 1336 = .ok (.istore 7, 2) := dk_54 7 (dk_at dksL_law_51 12 rfl rfl)
theorem dL_law_1338 : decode cL_law 1338 = .ok (.aload_n 2, 1) := dk_44 (dk_at dksL_law_51 14 rfl rfl)
theorem dL_law_1339 : decode cL_law 1339 = .ok (.invokevirtual 135, 3) := dk_182 0 135 (dk_at dksL_law_51 15 rfl rfl)
theorem dL_law_1342 : decode cL_law 1342 = .ok (.iload 6, 2) := dk_21 6 (dk_at dksL_law_51 18 rfl rfl)
theorem dL_law_1344 : decode cL_law 1344 = .ok (.if_icmp .eq 5, 3) := dk_159 0 5 (dk_at dksL_law_51 20 rfl rfl)
theorem dL_law_1347 : decode cL_law 1347 = .ok (.iconst 0, 1) := dk_3 (dk_at dksL_law_51 23 rfl rfl)
theorem dL_law_1348 : decode cL_law 1348 = .ok (.ireturn, 1) := dk_172 (dk_at dksL_law_52 0 rfl rfl)
theorem dL_law_1349 : decode cL_law 1349 = .ok (.iload 6, 2) := dk_21 6 (dk_at dksL_law_52 1 rfl rfl)
theorem dL_law_1351 : decode cL_law 1351 = .ok (.ifCond .ne 15, 3) := dk_154 0 15 (dk_at dksL_law_52 3 rfl rfl)
theorem dL_law_1354 : decode cL_law 1354 = .ok (.aload_n 3, 1) := dk_45 (dk_at dksL_law_52 6 rfl rfl)
theorem dL_law_1355 : decode cL_law 1355 = .ok (.iconst 0, 1) := dk_3 (dk_at dksL_law_52 7 rfl rfl)
theorem dL_law_1356 : decode cL_law 1356 = .ok (.laload, 1) := dk_47 (dk_at dksL_law_52 8 rfl rfl)
theorem dL_law_1357 : decode cL_law 1357 = .ok (.iload 7, 2) := dk_21 7 (dk_at dksL_law_52 9 rfl rfl)
theorem dL_law_1359 : decode cL_law 1359 = .ok (.i2l, 1) := dk_133 (dk_at dksL_law_52 11 rfl rfl)
theorem dL_law_1360 : decode cL_law 1360 = .ok (.lcmp, 1) := dk_148 (dk_at dksL_law_52 12 rfl rfl)
theorem dL_law_1361 : decode cL_law 1361 = .ok (.ifCond .eq 5, 3) := dk_153 0 5 (dk_at dksL_law_52 13 rfl rfl)
theorem dL_law_1364 : decode cL_law 1364 = .ok (.iconst 0, 1) := dk_3 (dk_at dksL_law_52 16 rfl rfl)
theorem dL_law_1365 : decode cL_law 1365 = .ok (.ireturn, 1) := dk_172 (dk_at dksL_law_52 17 rfl rfl)
theorem dL_law_1366 : decode cL_law 1366 = .ok (.goto 806, 3) := dk_167 3 38 (dk_at dksL_law_52 18 rfl rfl)
theorem dL_law_1369 : decode cL_law 1369 = .ok (.aload_n 1, 1) := dk_43 (dk_at dksL_law_52 21 rfl rfl)
theorem dL_law_1370 : decode cL_law 1370 = .ok (.aload_n 0, 1) := dk_42 (dk_at dksL_law_52 22 rfl rfl)
theorem dL_law_1371 : decode cL_law 1371 = .ok (.iload 5, 2) := dk_21 5 (dk_at dksL_law_53 0 rfl rfl)
theorem dL_law_1373 : decode cL_law 1373 = .ok (.iconst 1, 1) := dk_4 (dk_at dksL_law_53 2 rfl rfl)
theorem dL_law_1374 : decode cL_law 1374 = .ok (.iadd, 1) := dk_96 (dk_at dksL_law_53 3 rfl rfl)
theorem dL_law_1375 : decode cL_law 1375 = .ok (.iaload, 1) := dk_46 (dk_at dksL_law_53 4 rfl rfl)
theorem dL_law_1376 : decode cL_law 1376 = .ok (.aload_n 3, 1) := dk_45 (dk_at dksL_law_53 5 rfl rfl)
theorem dL_law_1377 : decode cL_law 1377 = .ok (.invokestatic 200, 3) := dk_184 0 200 (dk_at dksL_law_53 6 rfl rfl)
theorem dL_law_1380 : decode cL_law 1380 = .ok (.istore 6, 2) := dk_54 6 (dk_at dksL_law_53 9 rfl rfl)
theorem dL_law_1382 : decode cL_law 1382 = .ok (.aload_n 2, 1) := dk_44 (dk_at dksL_law_53 11 rfl rfl)
theorem dL_law_1383 : decode cL_law 1383 = .ok (.aload_n 0, 1) := dk_42 (dk_at dksL_law_53 12 rfl rfl)
theorem dL_law_1384 : decode cL_law 1384 = .ok (.iload 5, 2) := dk_21 5 (dk_at dksL_law_53 13 rfl rfl)
theorem dL_law_1386 : decode cL_law 1386 = .ok (.iconst 1, 1) := dk_4 (dk_at dksL_law_53 15 rfl rfl)
theorem dL_law_1387 : decode cL_law 1387 = .ok (.iadd, 1) := dk_96 (dk_at dksL_law_53 16 rfl rfl)
theorem dL_law_1388 : decode cL_law 1388 = .ok (.iaload, 1) := dk_46 (dk_at dksL_law_53 17 rfl rfl)
theorem dL_law_1389 : decode cL_law 1389 = .ok (.invokevirtual 202, 3) := dk_182 0 202 (dk_at dksL_law_53 18 rfl rfl)
theorem dL_law_1392 : decode cL_law 1392 = .ok (.istore 7, 2) := dk_54 7 (dk_at dksL_law_53 21 rfl rfl)
theorem dL_law_1394 : decode cL_law 1394 = .ok (.aload_n 2, 1) := dk_44 (dk_at dksL_law_53 23 rfl rfl)
theorem dL_law_1395 : decode cL_law 1395 = .ok (.invokevirtual 135, 3) := dk_182 0 135 (dk_at dksL_law_54 0 rfl rfl)
theorem dL_law_1398 : decode cL_law 1398 = .ok (.iload 6, 2) := dk_21 6 (dk_at dksL_law_54 3 rfl rfl)
theorem dL_law_1400 : decode cL_law 1400 = .ok (.if_icmp .eq 5, 3) := dk_159 0 5 (dk_at dksL_law_54 5 rfl rfl)
theorem dL_law_1403 : decode cL_law 1403 = .ok (.iconst 0, 1) := dk_3 (dk_at dksL_law_54 8 rfl rfl)
theorem dL_law_1404 : decode cL_law 1404 = .ok (.ireturn, 1) := dk_172 (dk_at dksL_law_54 9 rfl rfl)
theorem dL_law_1405 : decode cL_law 1405 = .ok (.iload 6, 2) := dk_21 6 (dk_at dksL_law_54 10 rfl rfl)
theorem dL_law_1407 : decode cL_law 1407 = .ok (.ifCond .ne 15, 3) := dk_154 0 15 (dk_at dksL_law_54 12 rfl rfl)
theorem dL_law_1410 : decode cL_law 1410 = .ok (.aload_n 3, 1) := dk_45 (dk_at dksL_law_54 15 rfl rfl)
theorem dL_law_1411 : decode cL_law 1411 = .ok (.iconst 0, 1) := dk_3 (dk_at dksL_law_54 16 rfl rfl)
theorem dL_law_1412 : decode cL_law 1412 = .ok (.laload, 1) := dk_47 (dk_at dksL_law_54 17 rfl rfl)
theorem dL_law_1413 : decode cL_law 1413 = .ok (.iload 7, 2) := dk_21 7 (dk_at dksL_law_54 18 rfl rfl)
theorem dL_law_1415 : decode cL_law 1415 = .ok (.i2l, 1) := dk_133 (dk_at dksL_law_54 20 rfl rfl)
theorem dL_law_1416 : decode cL_law 1416 = .ok (.lcmp, 1) := dk_148 (dk_at dksL_law_54 21 rfl rfl)
theorem dL_law_1417 : decode cL_law 1417 = .ok (.ifCond .eq 5, 3) := dk_153 0 5 (dk_at dksL_law_55 0 rfl rfl)
theorem dL_law_1420 : decode cL_law 1420 = .ok (.iconst 0, 1) := dk_3 (dk_at dksL_law_55 3 rfl rfl)
theorem dL_law_1421 : decode cL_law 1421 = .ok (.ireturn, 1) := dk_172 (dk_at dksL_law_55 4 rfl rfl)
theorem dL_law_1422 : decode cL_law 1422 = .ok (.goto 750, 3) := dk_167 2 238 (dk_at dksL_law_55 5 rfl rfl)
theorem dL_law_1425 : decode cL_law 1425 = .ok (.aload_n 1, 1) := dk_43 (dk_at dksL_law_55 8 rfl rfl)
theorem dL_law_1426 : decode cL_law 1426 = .ok (.aload_n 0, 1) := dk_42 (dk_at dksL_law_55 9 rfl rfl)
theorem dL_law_1427 : decode cL_law 1427 = .ok (.iload 5, 2) := dk_21 5 (dk_at dksL_law_55 10 rfl rfl)
theorem dL_law_1429 : decode cL_law 1429 = .ok (.iconst 1, 1) := dk_4 (dk_at dksL_law_55 12 rfl rfl)
theorem dL_law_1430 : decode cL_law 1430 = .ok (.iadd, 1) := dk_96 (dk_at dksL_law_55 13 rfl rfl)
theorem dL_law_1431 : decode cL_law 1431 = .ok (.iaload, 1) := dk_46 (dk_at dksL_law_55 14 rfl rfl)
theorem dL_law_1432 : decode cL_law 1432 = .ok (.aload_n 3, 1) := dk_45 (dk_at dksL_law_55 15 rfl rfl)
theorem dL_law_1433 : decode cL_law 1433 = .ok (.invokestatic 203, 3) := dk_184 0 203 (dk_at dksL_law_55 16 rfl rfl)
theorem dL_law_1436 : decode cL_law 1436 = .ok (.istore 6, 2) := dk_54 6 (dk_at dksL_law_55 19 rfl rfl)
theorem dL_law_1438 : decode cL_law 1438 = .ok (.aload_n 2, 1) := dk_44 (dk_at dksL_law_55 21 rfl rfl)
theorem dL_law_1439 : decode cL_law 1439 = .ok (.aload_n 0, 1) := dk_42 (dk_at dksL_law_55 22 rfl rfl)
theorem dL_law_1440 : decode cL_law 1440 = .ok (.iload 5, 2) := dk_21 5 (dk_at dksL_law_56 0 rfl rfl)
theorem dL_law_1442 : decode cL_law 1442 = .ok (.iconst 1, 1) := dk_4 (dk_at dksL_law_56 2 rfl rfl)
theorem dL_law_1443 : decode cL_law 1443 = .ok (.iadd, 1) := dk_96 (dk_at dksL_law_56 3 rfl rfl)
theorem dL_law_1444 : decode cL_law 1444 = .ok (.iaload, 1) := dk_46 (dk_at dksL_law_56 4 rfl rfl)
theorem dL_law_1445 : decode cL_law 1445 = .ok (.invokevirtual 205, 3) := dk_182 0 205 (dk_at dksL_law_56 5 rfl rfl)
theorem dL_law_1448 : decode cL_law 1448 = .ok (.istore 7, 2) := dk_54 7 (dk_at dksL_law_56 8 rfl rfl)
theorem dL_law_1450 : decode cL_law 1450 = .ok (.aload_n 2, 1) := dk_44 (dk_at dksL_law_56 10 rfl rfl)
theorem dL_law_1451 : decode cL_law 1451 = .ok (.invokevirtual 135, 3) := dk_182 0 135 (dk_at dksL_law_56 11 rfl rfl)
theorem dL_law_1454 : decode cL_law 1454 = .ok (.iload 6, 2) := dk_21 6 (dk_at dksL_law_56 14 rfl rfl)
theorem dL_law_1456 : decode cL_law 1456 = .ok (.if_icmp .eq 5, 3) := dk_159 0 5 (dk_at dksL_law_56 16 rfl rfl)
theorem dL_law_1459 : decode cL_law 1459 = .ok (.iconst 0, 1) := dk_3 (dk_at dksL_law_56 19 rfl rfl)
theorem dL_law_1460 : decode cL_law 1460 = .ok (.ireturn, 1) := dk_172 (dk_at dksL_law_56 20 rfl rfl)
theorem dL_law_1461 : decode cL_law 1461 = .ok (.iload 6, 2) := dk_21 6 (dk_at dksL_law_56 21 rfl rfl)
theorem dL_law_1463 : decode cL_law 1463 = .ok (.ifCond .ne 15, 3) := dk_154 0 15 (dk_at dksL_law_57 0 rfl rfl)
theorem dL_law_1466 : decode cL_law 1466 = .ok (.aload_n 3, 1) := dk_45 (dk_at dksL_law_57 3 rfl rfl)
theorem dL_law_1467 : decode cL_law 1467 = .ok (.iconst 0, 1) := dk_3 (dk_at dksL_law_57 4 rfl rfl)
theorem dL_law_1468 : decode cL_law 1468 = .ok (.laload, 1) := dk_47 (dk_at dksL_law_57 5 rfl rfl)
theorem dL_law_1469 : decode cL_law 1469 = .ok (.iload 7, 2) := dk_21 7 (dk_at dksL_law_57 6 rfl rfl)
theorem dL_law_1471 : decode cL_law 1471 = .ok (.i2l, 1) := dk_133 (dk_at dksL_law_57 8 rfl rfl)
theorem dL_law_1472 : decode cL_law 1472 = .ok (.lcmp, 1) := dk_148 (dk_at dksL_law_57 9 rfl rfl)
theorem dL_law_1473 : decode cL_law 1473 = .ok (.ifCond .eq 5, 3) := dk_153 0 5 (dk_at dksL_law_57 10 rfl rfl)
theorem dL_law_1476 : decode cL_law 1476 = .ok (.iconst 0, 1) := dk_3 (dk_at dksL_law_57 13 rfl rfl)
theorem dL_law_1477 : decode cL_law 1477 = .ok (.ireturn, 1) := dk_172 (dk_at dksL_law_57 14 rfl rfl)
theorem dL_law_1478 : decode cL_law 1478 = .ok (.goto 694, 3) := dk_167 2 182 (dk_at dksL_law_57 15 rfl rfl)
theorem dL_law_1481 : decode cL_law 1481 = .ok (.aload_n 1, 1) := dk_43 (dk_at dksL_law_57 18 rfl rfl)
theorem dL_law_1482 : decode cL_law 1482 = .ok (.aload_n 0, 1) := dk_42 (dk_at dksL_law_57 19 rfl rfl)
theorem dL_law_1483 : decode cL_law 1483 = .ok (.iload 5, 2) := dk_21 5 (dk_at dksL_law_57 20 rfl rfl)
theorem dL_law_1485 : decode cL_law 1485 = .ok (.iconst 1, 1) := dk_4 (dk_at dksL_law_57 22 rfl rfl)
theorem dL_law_1486 : decode cL_law 1486 = .ok (.iadd, 1) := dk_96 (dk_at dksL_law_57 23 rfl rfl)
theorem dL_law_1487 : decode cL_law 1487 = .ok (.iaload, 1) := dk_46 (dk_at dksL_law_58 0 rfl rfl)
theorem dL_law_1488 : decode cL_law 1488 = .ok (.aload_n 3, 1) := dk_45 (dk_at dksL_law_58 1 rfl rfl)
theorem dL_law_1489 : decode cL_law 1489 = .ok (.invokestatic 206, 3) := dk_184 0 206 (dk_at dksL_law_58 2 rfl rfl)
theorem dL_law_1492 : decode cL_law 1492 = .ok (.istore 6, 2) := dk_54 6 (dk_at dksL_law_58 5 rfl rfl)
theorem dL_law_1494 : decode cL_law 1494 = .ok (.aload_n 2, 1) := dk_44 (dk_at dksL_law_58 7 rfl rfl)
theorem dL_law_1495 : decode cL_law 1495 = .ok (.aload_n 0, 1) := dk_42 (dk_at dksL_law_58 8 rfl rfl)
theorem dL_law_1496 : decode cL_law 1496 = .ok (.iload 5, 2) := dk_21 5 (dk_at dksL_law_58 9 rfl rfl)
theorem dL_law_1498 : decode cL_law 1498 = .ok (.iconst 1, 1) := dk_4 (dk_at dksL_law_58 11 rfl rfl)
theorem dL_law_1499 : decode cL_law 1499 = .ok (.iadd, 1) := dk_96 (dk_at dksL_law_58 12 rfl rfl)
theorem dL_law_1500 : decode cL_law 1500 = .ok (.iaload, 1) := dk_46 (dk_at dksL_law_58 13 rfl rfl)
theorem dL_law_1501 : decode cL_law 1501 = .ok (.invokevirtual 208, 3) := dk_182 0 208 (dk_at dksL_law_58 14 rfl rfl)
theorem dL_law_1504 : decode cL_law 1504 = .ok (.istore 7, 2) := dk_54 7 (dk_at dksL_law_58 17 rfl rfl)
theorem dL_law_1506 : decode cL_law 1506 = .ok (.aload_n 2, 1) := dk_44 (dk_at dksL_law_58 19 rfl rfl)
theorem dL_law_1507 : decode cL_law 1507 = .ok (.invokevirtual 135, 3) := dk_182 0 135 (dk_at dksL_law_58 20 rfl rfl)
theorem dL_law_1510 : decode cL_law 1510 = .ok (.iload 6, 2) := dk_21 6 (dk_at dksL_law_59 0 rfl rfl)
theorem dL_law_1512 : decode cL_law 1512 = .ok (.if_icmp .eq 5, 3) := dk_159 0 5 (dk_at dksL_law_59 2 rfl rfl)
theorem dL_law_1515 : decode cL_law 1515 = .ok (.iconst 0, 1) := dk_3 (dk_at dksL_law_59 5 rfl rfl)
theorem dL_law_1516 : decode cL_law 1516 = .ok (.ireturn, 1) := dk_172 (dk_at dksL_law_59 6 rfl rfl)
theorem dL_law_1517 : decode cL_law 1517 = .ok (.iload 6, 2) := dk_21 6 (dk_at dksL_law_59 7 rfl rfl)
theorem dL_law_1519 : decode cL_law 1519 = .ok (.ifCond .ne 15, 3) := dk_154 0 15 (dk_at dksL_law_59 9 rfl rfl)
theorem dL_law_1522 : decode cL_law 1522 = .ok (.aload_n 3, 1) := dk_45 (dk_at dksL_law_59 12 rfl rfl)
theorem dL_law_1523 : decode cL_law 1523 = .ok (.iconst 0, 1) := dk_3 (dk_at dksL_law_59 13 rfl rfl)
theorem dL_law_1524 : decode cL_law 1524 = .ok (.laload, 1) := dk_47 (dk_at dksL_law_59 14 rfl rfl)
theorem dL_law_1525 : decode cL_law 1525 = .ok (.iload 7, 2) := dk_21 7 (dk_at dksL_law_59 15 rfl rfl)
theorem dL_law_1527 : decode cL_law 1527 = .ok (.i2l, 1) := dk_133 (dk_at dksL_law_59 17 rfl rfl)
theorem dL_law_1528 : decode cL_law 1528 = .ok (.lcmp, 1) := dk_148 (dk_at dksL_law_59 18 rfl rfl)
theorem dL_law_1529 : decode cL_law 1529 = .ok (.ifCond .eq 5, 3) := dk_153 0 5 (dk_at dksL_law_59 19 rfl rfl)
theorem dL_law_1532 : decode cL_law 1532 = .ok (.iconst 0, 1) := dk_3 (dk_at dksL_law_59 22 rfl rfl)
theorem dL_law_1533 : decode cL_law 1533 = .ok (.ireturn, 1) := dk_172 (dk_at dksL_law_59 23 rfl rfl)
theorem dL_law_1534 : decode cL_law 1534 = .ok (.goto 638, 3) := dk_167 2 126 (dk_at dksL_law_60 0 rfl rfl)
theorem dL_law_1537 : decode cL_law 1537 = .ok (.aload_n 1, 1) := dk_43 (dk_at dksL_law_60 3 rfl rfl)
theorem dL_law_1538 : decode cL_law 1538 = .ok (.aload_n 0, 1) := dk_42 (dk_at dksL_law_60 4 rfl rfl)
theorem dL_law_1539 : decode cL_law 1539 = .ok (.iload 5, 2) := dk_21 5 (dk_at dksL_law_60 5 rfl rfl)
theorem dL_law_1541 : decode cL_law 1541 = .ok (.iconst 1, 1) := dk_4 (dk_at dksL_law_60 7 rfl rfl)
theorem dL_law_1542 : decode cL_law 1542 = .ok (.iadd, 1) := dk_96 (dk_at dksL_law_60 8 rfl rfl)
theorem dL_law_1543 : decode cL_law 1543 = .ok (.iaload, 1) := dk_46 (dk_at dksL_law_60 9 rfl rfl)
theorem dL_law_1544 : decode cL_law 1544 = .ok (.i2c, 1) := dk_146 (dk_at dksL_law_60 10 rfl rfl)
theorem dL_law_1545 : decode cL_law 1545 = .ok (.aload_n 3, 1) := dk_45 (dk_at dksL_law_60 11 rfl rfl)
theorem dL_law_1546 : decode cL_law 1546 = .ok (.invokestatic 209, 3) := dk_184 0 209 (dk_at dksL_law_60 12 rfl rfl)
theorem dL_law_1549 : decode cL_law 1549 = .ok (.istore 6, 2) := dk_54 6 (dk_at dksL_law_60 15 rfl rfl)
theorem dL_law_1551 : decode cL_law 1551 = .ok (.aload_n 2, 1) := dk_44 (dk_at dksL_law_60 17 rfl rfl)
theorem dL_law_1552 : decode cL_law 1552 = .ok (.aload_n 0, 1) := dk_42 (dk_at dksL_law_60 18 rfl rfl)
theorem dL_law_1553 : decode cL_law 1553 = .ok (.iload 5, 2) := dk_21 5 (dk_at dksL_law_60 19 rfl rfl)
theorem dL_law_1555 : decode cL_law 1555 = .ok (.iconst 1, 1) := dk_4 (dk_at dksL_law_60 21 rfl rfl)
theorem dL_law_1556 : decode cL_law 1556 = .ok (.iadd, 1) := dk_96 (dk_at dksL_law_60 22 rfl rfl)
theorem dL_law_1557 : decode cL_law 1557 = .ok (.iaload, 1) := dk_46 (dk_at dksL_law_60 23 rfl rfl)
theorem dL_law_1558 : decode cL_law 1558 = .ok (.i2c, 1) := dk_146 (dk_at dksL_law_61 0 rfl rfl)
theorem dL_law_1559 : decode cL_law 1559 = .ok (.invokevirtual 212, 3) := dk_182 0 212 (dk_at dksL_law_61 1 rfl rfl)
theorem dL_law_1562 : decode cL_law 1562 = .ok (.istore 7, 2) := dk_54 7 (dk_at dksL_law_61 4 rfl rfl)
theorem dL_law_1564 : decode cL_law 1564 = .ok (.aload_n 2, 1) := dk_44 (dk_at dksL_law_61 6 rfl rfl)
theorem dL_law_1565 : decode cL_law 1565 = .ok (.invokevirtual 135, 3) := dk_182 0 135 (dk_at dksL_law_61 7 rfl rfl)
theorem dL_law_1568 : decode cL_law 1568 = .ok (.iload 6, 2) := dk_21 6 (dk_at dksL_law_61 10 rfl rfl)
theorem dL_law_1570 : decode cL_law 1570 = .ok (.if_icmp .eq 5, 3) := dk_159 0 5 (dk_at dksL_law_61 12 rfl rfl)
theorem dL_law_1573 : decode cL_law 1573 = .ok (.iconst 0, 1) := dk_3 (dk_at dksL_law_61 15 rfl rfl)
theorem dL_law_1574 : decode cL_law 1574 = .ok (.ireturn, 1) := dk_172 (dk_at dksL_law_61 16 rfl rfl)
theorem dL_law_1575 : decode cL_law 1575 = .ok (.iload 6, 2) := dk_21 6 (dk_at dksL_law_61 17 rfl rfl)
theorem dL_law_1577 : decode cL_law 1577 = .ok (.ifCond .ne 15, 3) := dk_154 0 15 (dk_at dksL_law_61 19 rfl rfl)
theorem dL_law_1580 : decode cL_law 1580 = .ok (.aload_n 3, 1) := dk_45 (dk_at dksL_law_61 22 rfl rfl)
theorem dL_law_1581 : decode cL_law 1581 = .ok (.iconst 0, 1) := dk_3 (dk_at dksL_law_61 23 rfl rfl)
theorem dL_law_1582 : decode cL_law 1582 = .ok (.laload, 1) := dk_47 (dk_at dksL_law_62 0 rfl rfl)
theorem dL_law_1583 : decode cL_law 1583 = .ok (.iload 7, 2) := dk_21 7 (dk_at dksL_law_62 1 rfl rfl)
theorem dL_law_1585 : decode cL_law 1585 = .ok (.i2l, 1) := dk_133 (dk_at dksL_law_62 3 rfl rfl)
theorem dL_law_1586 : decode cL_law 1586 = .ok (.lcmp, 1) := dk_148 (dk_at dksL_law_62 4 rfl rfl)
theorem dL_law_1587 : decode cL_law 1587 = .ok (.ifCond .eq 5, 3) := dk_153 0 5 (dk_at dksL_law_62 5 rfl rfl)
theorem dL_law_1590 : decode cL_law 1590 = .ok (.iconst 0, 1) := dk_3 (dk_at dksL_law_62 8 rfl rfl)
theorem dL_law_1591 : decode cL_law 1591 = .ok (.ireturn, 1) := dk_172 (dk_at dksL_law_62 9 rfl rfl)
theorem dL_law_1592 : decode cL_law 1592 = .ok (.goto 580, 3) := dk_167 2 68 (dk_at dksL_law_62 10 rfl rfl)
theorem dL_law_1595 : decode cL_law 1595 = .ok (.aload_n 1, 1) := dk_43 (dk_at dksL_law_62 13 rfl rfl)
theorem dL_law_1596 : decode cL_law 1596 = .ok (.aload_n 3, 1) := dk_45 (dk_at dksL_law_62 14 rfl rfl)
theorem dL_law_1597 : decode cL_law 1597 = .ok (.invokestatic 213, 3) := dk_184 0 213 (dk_at dksL_law_62 15 rfl rfl)
theorem dL_law_1600 : decode cL_law 1600 = .ok (.istore 6, 2) := dk_54 6 (dk_at dksL_law_62 18 rfl rfl)
theorem dL_law_1602 : decode cL_law 1602 = .ok (.aload_n 2, 1) := dk_44 (dk_at dksL_law_62 20 rfl rfl)
theorem dL_law_1603 : decode cL_law 1603 = .ok (.invokevirtual 215, 3) := dk_182 0 215 (dk_at dksL_law_62 21 rfl rfl)
theorem dL_law_1606 : decode cL_law 1606 = .ok (.istore 7, 2) := dk_54 7 (dk_at dksL_law_63 0 rfl rfl)
theorem dL_law_1608 : decode cL_law 1608 = .ok (.aload_n 2, 1) := dk_44 (dk_at dksL_law_63 2 rfl rfl)
theorem dL_law_1609 : decode cL_law 1609 = .ok (.invokevirtual 135, 3) := dk_182 0 135 (dk_at dksL_law_63 3 rfl rfl)
theorem dL_law_1612 : decode cL_law 1612 = .ok (.iload 6, 2) := dk_21 6 (dk_at dksL_law_63 6 rfl rfl)
theorem dL_law_1614 : decode cL_law 1614 = .ok (.if_icmp .eq 5, 3) := dk_159 0 5 (dk_at dksL_law_63 8 rfl rfl)
theorem dL_law_1617 : decode cL_law 1617 = .ok (.iconst 0, 1) := dk_3 (dk_at dksL_law_63 11 rfl rfl)
theorem dL_law_1618 : decode cL_law 1618 = .ok (.ireturn, 1) := dk_172 (dk_at dksL_law_63 12 rfl rfl)
theorem dL_law_1619 : decode cL_law 1619 = .ok (.iload 6, 2) := dk_21 6 (dk_at dksL_law_63 13 rfl rfl)
theorem dL_law_1621 : decode cL_law 1621 = .ok (.ifCond .ne 15, 3) := dk_154 0 15 (dk_at dksL_law_63 15 rfl rfl)
theorem dL_law_1624 : decode cL_law 1624 = .ok (.aload_n 3, 1) := dk_45 (dk_at dksL_law_63 18 rfl rfl)
theorem dL_law_1625 : decode cL_law 1625 = .ok (.iconst 0, 1) := dk_3 (dk_at dksL_law_63 19 rfl rfl)
theorem dL_law_1626 : decode cL_law 1626 = .ok (.laload, 1) := dk_47 (dk_at dksL_law_63 20 rfl rfl)
theorem dL_law_1627 : decode cL_law 1627 = .ok (.iload 7, 2) := dk_21 7 (dk_at dksL_law_63 21 rfl rfl)
theorem dL_law_1629 : decode cL_law 1629 = .ok (.i2l, 1) := dk_133 (dk_at dksL_law_63 23 rfl rfl)
theorem dL_law_1630 : decode cL_law 1630 = .ok (.lcmp, 1) := dk_148 (dk_at dksL_law_64 0 rfl rfl)
theorem dL_law_1631 : decode cL_law 1631 = .ok (.ifCond .eq 5, 3) := dk_153 0 5 (dk_at dksL_law_64 1 rfl rfl)
theorem dL_law_1634 : decode cL_law 1634 = .ok (.iconst 0, 1) := dk_3 (dk_at dksL_law_64 4 rfl rfl)
theorem dL_law_1635 : decode cL_law 1635 = .ok (.ireturn, 1) := dk_172 (dk_at dksL_law_64 5 rfl rfl)
theorem dL_law_1636 : decode cL_law 1636 = .ok (.goto 536, 3) := dk_167 2 24 (dk_at dksL_law_64 6 rfl rfl)
theorem dL_law_1639 : decode cL_law 1639 = .ok (.aload_n 1, 1) := dk_43 (dk_at dksL_law_64 9 rfl rfl)
theorem dL_law_1640 : decode cL_law 1640 = .ok (.aload_n 3, 1) := dk_45 (dk_at dksL_law_64 10 rfl rfl)
theorem dL_law_1641 : decode cL_law 1641 = .ok (.invokestatic 216, 3) := dk_184 0 216 (dk_at dksL_law_64 11 rfl rfl)
theorem dL_law_1644 : decode cL_law 1644 = .ok (.istore 6, 2) := dk_54 6 (dk_at dksL_law_64 14 rfl rfl)
theorem dL_law_1646 : decode cL_law 1646 = .ok (.aload_n 2, 1) := dk_44 (dk_at dksL_law_64 16 rfl rfl)
theorem dL_law_1647 : decode cL_law 1647 = .ok (.invokevirtual 218, 3) := dk_182 0 218 (dk_at dksL_law_64 17 rfl rfl)
theorem dL_law_1650 : decode cL_law 1650 = .ok (.istore 7, 2) := dk_54 7 (dk_at dksL_law_64 20 rfl rfl)
theorem dL_law_1652 : decode cL_law 1652 = .ok (.aload_n 2, 1) := dk_44 (dk_at dksL_law_64 22 rfl rfl)
theorem dL_law_1653 : decode cL_law 1653 = .ok (.invokevirtual 135, 3) := dk_182 0 135 (dk_at dksL_law_65 0 rfl rfl)
theorem dL_law_1656 : decode cL_law 1656 = .ok (.iload 6, 2) := dk_21 6 (dk_at dksL_law_65 3 rfl rfl)
theorem dL_law_1658 : decode cL_law 1658 = .ok (.if_icmp .eq 5, 3) := dk_159 0 5 (dk_at dksL_law_65 5 rfl rfl)
theorem dL_law_1661 : decode cL_law 1661 = .ok (.iconst 0, 1) := dk_3 (dk_at dksL_law_65 8 rfl rfl)
theorem dL_law_1662 : decode cL_law 1662 = .ok (.ireturn, 1) := dk_172 (dk_at dksL_law_65 9 rfl rfl)
theorem dL_law_1663 : decode cL_law 1663 = .ok (.iload 6, 2) := dk_21 6 (dk_at dksL_law_65 10 rfl rfl)
theorem dL_law_1665 : decode cL_law 1665 = .ok (.ifCond .ne 15, 3) := dk_154 0 15 (dk_at dksL_law_65 12 rfl rfl)
theorem dL_law_1668 : decode cL_law 1668 = .ok (.aload_n 3, 1) := dk_45 (dk_at dksL_law_65 15 rfl rfl)
theorem dL_law_1669 : decode cL_law 1669 = .ok (.iconst 0, 1) := dk_3 (dk_at dksL_law_65 16 rfl rfl)
theorem dL_law_1670 : decode cL_law 1670 = .ok (.laload, 1) := dk_47 (dk_at dksL_law_65 17 rfl rfl)
theorem dL_law_1671 : decode cL_law 1671 = .ok (.iload 7, 2) := dk_21 7 (dk_at dksL_law_65 18 rfl rfl)
theorem dL_law_1673 : decode cL_law 1673 = .ok (.i2l, 1) := dk_133 (dk_at dksL_law_65 20 rfl rfl)
theorem dL_law_1674 : decode cL_law 1674 = .ok (.lcmp, 1) := dk_148 (dk_at dksL_law_65 21 rfl rfl)
theorem dL_law_1675 : decode cL_law 1675 = .ok (.ifCond .eq 5, 3) := dk_153 0 5 (dk_at dksL_law_66 0 rfl rfl)
theorem dL_law_1678 : decode cL_law 1678 = .ok (.iconst 0, 1) := dk_3 (dk_at dksL_law_66 3 rfl rfl)
theorem dL_law_1679 : decode cL_law 1679 = .ok (.ireturn, 1) := dk_172 (dk_at dksL_law_66 4 rfl rfl)
theorem dL_law_1680 : decode cL_law 1680 = .ok (.goto 492, 3) := dk_167 1 236 (dk_at dksL_law_66 5 rfl rfl)
theorem dL_law_1683 : decode cL_law 1683 = .ok (.aload_n 1, 1) := dk_43 (dk_at dksL_law_66 8 rfl rfl)
theorem dL_law_1684 : decode cL_law 1684 = .ok (.aload_n 0, 1) := dk_42 (dk_at dksL_law_66 9 rfl rfl)
theorem dL_law_1685 : decode cL_law 1685 = .ok (.iload 5, 2) := dk_21 5 (dk_at dksL_law_66 10 rfl rfl)
theorem dL_law_1687 : decode cL_law 1687 = .ok (.iconst 1, 1) := dk_4 (dk_at dksL_law_66 12 rfl rfl)
theorem dL_law_1688 : decode cL_law 1688 = .ok (.iadd, 1) := dk_96 (dk_at dksL_law_66 13 rfl rfl)
theorem dL_law_1689 : decode cL_law 1689 = .ok (.iaload, 1) := dk_46 (dk_at dksL_law_66 14 rfl rfl)
theorem dL_law_1690 : decode cL_law 1690 = .ok (.ifCond .eq 7, 3) := dk_153 0 7 (dk_at dksL_law_66 15 rfl rfl)
theorem dL_law_1693 : decode cL_law 1693 = .ok (.iconst 1, 1) := dk_4 (dk_at dksL_law_66 18 rfl rfl)
theorem dL_law_1694 : decode cL_law 1694 = .ok (.goto 4, 3) := dk_167 0 4 (dk_at dksL_law_66 19 rfl rfl)
theorem dL_law_1697 : decode cL_law 1697 = .ok (.iconst 0, 1) := dk_3 (dk_at dksL_law_66 22 rfl rfl)
theorem dL_law_1698 : decode cL_law 1698 = .ok (.aload_n 0, 1) := dk_42 (dk_at dksL_law_66 23 rfl rfl)
theorem dL_law_1699 : decode cL_law 1699 = .ok (.iload 5, 2) := dk_21 5 (dk_at dksL_law_67 0 rfl rfl)
theorem dL_law_1701 : decode cL_law 1701 = .ok (.iconst 2, 1) := dk_5 (dk_at dksL_law_67 2 rfl rfl)
theorem dL_law_1702 : decode cL_law 1702 = .ok (.iadd, 1) := dk_96 (dk_at dksL_law_67 3 rfl rfl)
theorem dL_law_1703 : decode cL_law 1703 = .ok (.iaload, 1) := dk_46 (dk_at dksL_law_67 4 rfl rfl)
theorem dL_law_1704 : decode cL_law 1704 = .ok (.ifCond .eq 7, 3) := dk_153 0 7 (dk_at dksL_law_67 5 rfl rfl)
theorem dL_law_1707 : decode cL_law 1707 = .ok (.iconst 1, 1) := dk_4 (dk_at dksL_law_67 8 rfl rfl)
theorem dL_law_1708 : decode cL_law 1708 = .ok (.goto 4, 3) := dk_167 0 4 (dk_at dksL_law_67 9 rfl rfl)
theorem dL_law_1711 : decode cL_law 1711 = .ok (.iconst 0, 1) := dk_3 (dk_at dksL_law_67 12 rfl rfl)
theorem dL_law_1712 : decode cL_law 1712 = .ok (.aload_n 3, 1) := dk_45 (dk_at dksL_law_67 13 rfl rfl)
theorem dL_law_1713 : decode cL_law 1713 = .ok (.invokestatic 219, 3) := dk_184 0 219 (dk_at dksL_law_67 14 rfl rfl)
theorem dL_law_1716 : decode cL_law 1716 = .ok (.istore 6, 2) := dk_54 6 (dk_at dksL_law_67 17 rfl rfl)
theorem dL_law_1718 : decode cL_law 1718 = .ok (.aload_n 2, 1) := dk_44 (dk_at dksL_law_67 19 rfl rfl)
theorem dL_law_1719 : decode cL_law 1719 = .ok (.aload_n 0, 1) := dk_42 (dk_at dksL_law_67 20 rfl rfl)
theorem dL_law_1720 : decode cL_law 1720 = .ok (.iload 5, 2) := dk_21 5 (dk_at dksL_law_67 21 rfl rfl)
theorem dL_law_1722 : decode cL_law 1722 = .ok (.iconst 1, 1) := dk_4 (dk_at dksL_law_67 23 rfl rfl)
theorem dL_law_1723 : decode cL_law 1723 = .ok (.iadd, 1) := dk_96 (dk_at dksL_law_68 0 rfl rfl)
theorem dL_law_1724 : decode cL_law 1724 = .ok (.iaload, 1) := dk_46 (dk_at dksL_law_68 1 rfl rfl)
theorem dL_law_1725 : decode cL_law 1725 = .ok (.ifCond .eq 7, 3) := dk_153 0 7 (dk_at dksL_law_68 2 rfl rfl)
theorem dL_law_1728 : decode cL_law 1728 = .ok (.iconst 1, 1) := dk_4 (dk_at dksL_law_68 5 rfl rfl)
theorem dL_law_1729 : decode cL_law 1729 = .ok (.goto 4, 3) := dk_167 0 4 (dk_at dksL_law_68 6 rfl rfl)
theorem dL_law_1732 : decode cL_law 1732 = .ok (.iconst 0, 1) := dk_3 (dk_at dksL_law_68 9 rfl rfl)
theorem dL_law_1733 : decode cL_law 1733 = .ok (.aload_n 0, 1) := dk_42 (dk_at dksL_law_68 10 rfl rfl)
theorem dL_law_1734 : decode cL_law 1734 = .ok (.iload 5, 2) := dk_21 5 (dk_at dksL_law_68 11 rfl rfl)
theorem dL_law_1736 : decode cL_law 1736 = .ok (.iconst 2, 1) := dk_5 (dk_at dksL_law_68 13 rfl rfl)
theorem dL_law_1737 : decode cL_law 1737 = .ok (.iadd, 1) := dk_96 (dk_at dksL_law_68 14 rfl rfl)
theorem dL_law_1738 : decode cL_law 1738 = .ok (.iaload, 1) := dk_46 (dk_at dksL_law_68 15 rfl rfl)
theorem dL_law_1739 : decode cL_law 1739 = .ok (.ifCond .eq 7, 3) := dk_153 0 7 (dk_at dksL_law_68 16 rfl rfl)
theorem dL_law_1742 : decode cL_law 1742 = .ok (.iconst 1, 1) := dk_4 (dk_at dksL_law_68 19 rfl rfl)
theorem dL_law_1743 : decode cL_law 1743 = .ok (.goto 4, 3) := dk_167 0 4 (dk_at dksL_law_68 20 rfl rfl)
theorem dL_law_1746 : decode cL_law 1746 = .ok (.iconst 0, 1) := dk_3 (dk_at dksL_law_68 23 rfl rfl)
theorem dL_law_1747 : decode cL_law 1747 = .ok (.invokevirtual 222, 3) := dk_182 0 222 (dk_at dksL_law_69 0 rfl rfl)
theorem dL_law_1750 : decode cL_law 1750 = .ok (.istore 7, 2) := dk_54 7 (dk_at dksL_law_69 3 rfl rfl)
theorem dL_law_1752 : decode cL_law 1752 = .ok (.aload_n 2, 1) := dk_44 (dk_at dksL_law_69 5 rfl rfl)
theorem dL_law_1753 : decode cL_law 1753 = .ok (.invokevirtual 135, 3) := dk_182 0 135 (dk_at dksL_law_69 6 rfl rfl)
theorem dL_law_1756 : decode cL_law 1756 = .ok (.iload 6, 2) := dk_21 6 (dk_at dksL_law_69 9 rfl rfl)
theorem dL_law_1758 : decode cL_law 1758 = .ok (.if_icmp .eq 5, 3) := dk_159 0 5 (dk_at dksL_law_69 11 rfl rfl)
theorem dL_law_1761 : decode cL_law 1761 = .ok (.iconst 0, 1) := dk_3 (dk_at dksL_law_69 14 rfl rfl)
theorem dL_law_1762 : decode cL_law 1762 = .ok (.ireturn, 1) := dk_172 (dk_at dksL_law_69 15 rfl rfl)
theorem dL_law_1763 : decode cL_law 1763 = .ok (.iload 6, 2) := dk_21 6 (dk_at dksL_law_69 16 rfl rfl)
theorem dL_law_1765 : decode cL_law 1765 = .ok (.ifCond .ne 15, 3) := dk_154 0 15 (dk_at dksL_law_69 18 rfl rfl)
theorem dL_law_1768 : decode cL_law 1768 = .ok (.aload_n 3, 1) := dk_45 (dk_at dksL_law_69 21 rfl rfl)
theorem dL_law_1769 : decode cL_law 1769 = .ok (.iconst 0, 1) := dk_3 (dk_at dksL_law_69 22 rfl rfl)
theorem dL_law_1770 : decode cL_law 1770 = .ok (.laload, 1) := dk_47 (dk_at dksL_law_69 23 rfl rfl)
theorem dL_law_1771 : decode cL_law 1771 = .ok (.iload 7, 2) := dk_21 7 (dk_at dksL_law_70 0 rfl rfl)
theorem dL_law_1773 : decode cL_law 1773 = .ok (.i2l, 1) := dk_133 (dk_at dksL_law_70 2 rfl rfl)
theorem dL_law_1774 : decode cL_law 1774 = .ok (.lcmp, 1) := dk_148 (dk_at dksL_law_70 3 rfl rfl)
theorem dL_law_1775 : decode cL_law 1775 = .ok (.ifCond .eq 5, 3) := dk_153 0 5 (dk_at dksL_law_70 4 rfl rfl)
theorem dL_law_1778 : decode cL_law 1778 = .ok (.iconst 0, 1) := dk_3 (dk_at dksL_law_70 7 rfl rfl)
theorem dL_law_1779 : decode cL_law 1779 = .ok (.ireturn, 1) := dk_172 (dk_at dksL_law_70 8 rfl rfl)
theorem dL_law_1780 : decode cL_law 1780 = .ok (.goto 392, 3) := dk_167 1 136 (dk_at dksL_law_70 9 rfl rfl)
theorem dL_law_1783 : decode cL_law 1783 = .ok (.aload_n 1, 1) := dk_43 (dk_at dksL_law_70 12 rfl rfl)
theorem dL_law_1784 : decode cL_law 1784 = .ok (.aload_n 0, 1) := dk_42 (dk_at dksL_law_70 13 rfl rfl)
theorem dL_law_1785 : decode cL_law 1785 = .ok (.iload 5, 2) := dk_21 5 (dk_at dksL_law_70 14 rfl rfl)
theorem dL_law_1787 : decode cL_law 1787 = .ok (.iconst 1, 1) := dk_4 (dk_at dksL_law_70 16 rfl rfl)
theorem dL_law_1788 : decode cL_law 1788 = .ok (.iadd, 1) := dk_96 (dk_at dksL_law_70 17 rfl rfl)
theorem dL_law_1789 : decode cL_law 1789 = .ok (.iaload, 1) := dk_46 (dk_at dksL_law_70 18 rfl rfl)
theorem dL_law_1790 : decode cL_law 1790 = .ok (.aload_n 3, 1) := dk_45 (dk_at dksL_law_70 19 rfl rfl)
theorem dL_law_1791 : decode cL_law 1791 = .ok (.invokestatic 223, 3) := dk_184 0 223 (dk_at dksL_law_70 20 rfl rfl)
theorem dL_law_1794 : decode cL_law 1794 = .ok (.istore 6, 2) := dk_54 6 (dk_at dksL_law_71 0 rfl rfl)
theorem dL_law_1796 : decode cL_law 1796 = .ok (.aload_n 2, 1) := dk_44 (dk_at dksL_law_71 2 rfl rfl)
theorem dL_law_1797 : decode cL_law 1797 = .ok (.aload_n 0, 1) := dk_42 (dk_at dksL_law_71 3 rfl rfl)
theorem dL_law_1798 : decode cL_law 1798 = .ok (.iload 5, 2) := dk_21 5 (dk_at dksL_law_71 4 rfl rfl)
theorem dL_law_1800 : decode cL_law 1800 = .ok (.iconst 1, 1) := dk_4 (dk_at dksL_law_71 6 rfl rfl)
theorem dL_law_1801 : decode cL_law 1801 = .ok (.iadd, 1) := dk_96 (dk_at dksL_law_71 7 rfl rfl)
theorem dL_law_1802 : decode cL_law 1802 = .ok (.iaload, 1) := dk_46 (dk_at dksL_law_71 8 rfl rfl)
theorem dL_law_1803 : decode cL_law 1803 = .ok (.invokevirtual 225, 3) := dk_182 0 225 (dk_at dksL_law_71 9 rfl rfl)
theorem dL_law_1806 : decode cL_law 1806 = .ok (.istore 7, 2) := dk_54 7 (dk_at dksL_law_71 12 rfl rfl)
theorem dL_law_1808 : decode cL_law 1808 = .ok (.aload_n 2, 1) := dk_44 (dk_at dksL_law_71 14 rfl rfl)
theorem dL_law_1809 : decode cL_law 1809 = .ok (.invokevirtual 135, 3) := dk_182 0 135 (dk_at dksL_law_71 15 rfl rfl)
theorem dL_law_1812 : decode cL_law 1812 = .ok (.iload 6, 2) := dk_21 6 (dk_at dksL_law_71 18 rfl rfl)
theorem dL_law_1814 : decode cL_law 1814 = .ok (.if_icmp .eq 5, 3) := dk_159 0 5 (dk_at dksL_law_71 20 rfl rfl)
theorem dL_law_1817 : decode cL_law 1817 = .ok (.iconst 0, 1) := dk_3 (dk_at dksL_law_71 23 rfl rfl)
theorem dL_law_1818 : decode cL_law 1818 = .ok (.ireturn, 1) := dk_172 (dk_at dksL_law_72 0 rfl rfl)
theorem dL_law_1819 : decode cL_law 1819 = .ok (.iload 6, 2) := dk_21 6 (dk_at dksL_law_72 1 rfl rfl)
theorem dL_law_1821 : decode cL_law 1821 = .ok (.ifCond .ne 15, 3) := dk_154 0 15 (dk_at dksL_law_72 3 rfl rfl)
theorem dL_law_1824 : decode cL_law 1824 = .ok (.aload_n 3, 1) := dk_45 (dk_at dksL_law_72 6 rfl rfl)
theorem dL_law_1825 : decode cL_law 1825 = .ok (.iconst 0, 1) := dk_3 (dk_at dksL_law_72 7 rfl rfl)
theorem dL_law_1826 : decode cL_law 1826 = .ok (.laload, 1) := dk_47 (dk_at dksL_law_72 8 rfl rfl)
theorem dL_law_1827 : decode cL_law 1827 = .ok (.iload 7, 2) := dk_21 7 (dk_at dksL_law_72 9 rfl rfl)
theorem dL_law_1829 : decode cL_law 1829 = .ok (.i2l, 1) := dk_133 (dk_at dksL_law_72 11 rfl rfl)
theorem dL_law_1830 : decode cL_law 1830 = .ok (.lcmp, 1) := dk_148 (dk_at dksL_law_72 12 rfl rfl)
theorem dL_law_1831 : decode cL_law 1831 = .ok (.ifCond .eq 5, 3) := dk_153 0 5 (dk_at dksL_law_72 13 rfl rfl)
theorem dL_law_1834 : decode cL_law 1834 = .ok (.iconst 0, 1) := dk_3 (dk_at dksL_law_72 16 rfl rfl)
theorem dL_law_1835 : decode cL_law 1835 = .ok (.ireturn, 1) := dk_172 (dk_at dksL_law_72 17 rfl rfl)
theorem dL_law_1836 : decode cL_law 1836 = .ok (.goto 336, 3) := dk_167 1 80 (dk_at dksL_law_72 18 rfl rfl)
theorem dL_law_1839 : decode cL_law 1839 = .ok (.aload_n 1, 1) := dk_43 (dk_at dksL_law_72 21 rfl rfl)
theorem dL_law_1840 : decode cL_law 1840 = .ok (.aload_n 0, 1) := dk_42 (dk_at dksL_law_72 22 rfl rfl)
theorem dL_law_1841 : decode cL_law 1841 = .ok (.iload 5, 2) := dk_21 5 (dk_at dksL_law_73 0 rfl rfl)
theorem dL_law_1843 : decode cL_law 1843 = .ok (.iconst 1, 1) := dk_4 (dk_at dksL_law_73 2 rfl rfl)
theorem dL_law_1844 : decode cL_law 1844 = .ok (.iadd, 1) := dk_96 (dk_at dksL_law_73 3 rfl rfl)
theorem dL_law_1845 : decode cL_law 1845 = .ok (.iaload, 1) := dk_46 (dk_at dksL_law_73 4 rfl rfl)
theorem dL_law_1846 : decode cL_law 1846 = .ok (.aload_n 3, 1) := dk_45 (dk_at dksL_law_73 5 rfl rfl)
theorem dL_law_1847 : decode cL_law 1847 = .ok (.invokestatic 226, 3) := dk_184 0 226 (dk_at dksL_law_73 6 rfl rfl)
theorem dL_law_1850 : decode cL_law 1850 = .ok (.istore 6, 2) := dk_54 6 (dk_at dksL_law_73 9 rfl rfl)
theorem dL_law_1852 : decode cL_law 1852 = .ok (.aload_n 2, 1) := dk_44 (dk_at dksL_law_73 11 rfl rfl)
theorem dL_law_1853 : decode cL_law 1853 = .ok (.aload_n 0, 1) := dk_42 (dk_at dksL_law_73 12 rfl rfl)
theorem dL_law_1854 : decode cL_law 1854 = .ok (.iload 5, 2) := dk_21 5 (dk_at dksL_law_73 13 rfl rfl)
theorem dL_law_1856 : decode cL_law 1856 = .ok (.iconst 1, 1) := dk_4 (dk_at dksL_law_73 15 rfl rfl)
theorem dL_law_1857 : decode cL_law 1857 = .ok (.iadd, 1) := dk_96 (dk_at dksL_law_73 16 rfl rfl)
theorem dL_law_1858 : decode cL_law 1858 = .ok (.iaload, 1) := dk_46 (dk_at dksL_law_73 17 rfl rfl)
theorem dL_law_1859 : decode cL_law 1859 = .ok (.invokevirtual 228, 3) := dk_182 0 228 (dk_at dksL_law_73 18 rfl rfl)
theorem dL_law_1862 : decode cL_law 1862 = .ok (.istore 7, 2) := dk_54 7 (dk_at dksL_law_73 21 rfl rfl)
theorem dL_law_1864 : decode cL_law 1864 = .ok (.aload_n 2, 1) := dk_44 (dk_at dksL_law_73 23 rfl rfl)
theorem dL_law_1865 : decode cL_law 1865 = .ok (.invokevirtual 135, 3) := dk_182 0 135 (dk_at dksL_law_74 0 rfl rfl)
theorem dL_law_1868 : decode cL_law 1868 = .ok (.iload 6, 2) := dk_21 6 (dk_at dksL_law_74 3 rfl rfl)
theorem dL_law_1870 : decode cL_law 1870 = .ok (.if_icmp .eq 5, 3) := dk_159 0 5 (dk_at dksL_law_74 5 rfl rfl)
theorem dL_law_1873 : decode cL_law 1873 = .ok (.iconst 0, 1) := dk_3 (dk_at dksL_law_74 8 rfl rfl)
theorem dL_law_1874 : decode cL_law 1874 = .ok (.ireturn, 1) := dk_172 (dk_at dksL_law_74 9 rfl rfl)
theorem dL_law_1875 : decode cL_law 1875 = .ok (.iload 6, 2) := dk_21 6 (dk_at dksL_law_74 10 rfl rfl)
theorem dL_law_1877 : decode cL_law 1877 = .ok (.ifCond .ne 15, 3) := dk_154 0 15 (dk_at dksL_law_74 12 rfl rfl)
theorem dL_law_1880 : decode cL_law 1880 = .ok (.aload_n 3, 1) := dk_45 (dk_at dksL_law_74 15 rfl rfl)
theorem dL_law_1881 : decode cL_law 1881 = .ok (.iconst 0, 1) := dk_3 (dk_at dksL_law_74 16 rfl rfl)
theorem dL_law_1882 : decode cL_law 1882 = .ok (.laload, 1) := dk_47 (dk_at dksL_law_74 17 rfl rfl)
theorem dL_law_1883 : decode cL_law 1883 = .ok (.iload 7, 2) := dk_21 7 (dk_at dksL_law_74 18 rfl rfl)
theorem dL_law_1885 : decode cL_law 1885 = .ok (.i2l, 1) := dk_133 (dk_at dksL_law_74 20 rfl rfl)
theorem dL_law_1886 : decode cL_law 1886 = .ok (.lcmp, 1) := dk_148 (dk_at dksL_law_74 21 rfl rfl)
theorem dL_law_1887 : decode cL_law 1887 = .ok (.ifCond .eq 5, 3) := dk_153 0 5 (dk_at dksL_law_75 0 rfl rfl)
theorem dL_law_1890 : decode cL_law 1890 = .ok (.iconst 0, 1) := dk_3 (dk_at dksL_law_75 3 rfl rfl)
theorem dL_law_1891 : decode cL_law 1891 = .ok (.ireturn, 1) := dk_172 (dk_at dksL_law_75 4 rfl rfl)
theorem dL_law_1892 : decode cL_law 1892 = .ok (.goto 280, 3) := dk_167 1 24 (dk_at dksL_law_75 5 rfl rfl)
theorem dL_law_1895 : decode cL_law 1895 = .ok (.aload_n 1, 1) := dk_43 (dk_at dksL_law_75 8 rfl rfl)
theorem dL_law_1896 : decode cL_law 1896 = .ok (.aload 4, 2) := dk_25 4 (dk_at dksL_law_75 9 rfl rfl)
theorem dL_law_1898 : decode cL_law 1898 = .ok (.invokestatic 229, 3) := dk_184 0 229 (dk_at dksL_law_75 11 rfl rfl)
theorem dL_law_1901 : decode cL_law 1901 = .ok (.istore 6, 2) := dk_54 6 (dk_at dksL_law_75 14 rfl rfl)
theorem dL_law_1903 : decode cL_law 1903 = .ok (.aload_n 2, 1) := dk_44 (dk_at dksL_law_75 16 rfl rfl)
theorem dL_law_1904 : decode cL_law 1904 = .ok (.invokevirtual 232, 3) := dk_182 0 232 (dk_at dksL_law_75 17 rfl rfl)
theorem dL_law_1907 : decode cL_law 1907 = .ok (.fstore 7, 2) := dk_56 7 (dk_at dksL_law_75 20 rfl rfl)
theorem dL_law_1909 : decode cL_law 1909 = .ok (.aload_n 2, 1) := dk_44 (dk_at dksL_law_75 22 rfl rfl)
theorem dL_law_1910 : decode cL_law 1910 = .ok (.invokevirtual 135, 3) := dk_182 0 135 (dk_at dksL_law_76 0 rfl rfl)
theorem dL_law_1913 : decode cL_law 1913 = .ok (.iload 6, 2) := dk_21 6 (dk_at dksL_law_76 3 rfl rfl)
theorem dL_law_1915 : decode cL_law 1915 = .ok (.if_icmp .eq 5, 3) := dk_159 0 5 (dk_at dksL_law_76 5 rfl rfl)
theorem dL_law_1918 : decode cL_law 1918 = .ok (.iconst 0, 1) := dk_3 (dk_at dksL_law_76 8 rfl rfl)
theorem dL_law_1919 : decode cL_law 1919 = .ok (.ireturn, 1) := dk_172 (dk_at dksL_law_76 9 rfl rfl)
theorem dL_law_1920 : decode cL_law 1920 = .ok (.iload 6, 2) := dk_21 6 (dk_at dksL_law_76 10 rfl rfl)
theorem dL_law_1922 : decode cL_law 1922 = .ok (.ifCond .ne 36, 3) := dk_154 0 36 (dk_at dksL_law_76 12 rfl rfl)
theorem dL_law_1925 : decode cL_law 1925 = .ok (.aload 4, 2) := dk_25 4 (dk_at dksL_law_76 15 rfl rfl)
theorem dL_law_1927 : decode cL_law 1927 = .ok (.iconst 0, 1) := dk_3 (dk_at dksL_law_76 17 rfl rfl)
theorem dL_law_1928 : decode cL_law 1928 = .ok (.daload, 1) := dk_49 (dk_at dksL_law_76 18 rfl rfl)
theorem dL_law_1929 : decode cL_law 1929 = .ok (.fload 7, 2) := dk_23 7 (dk_at dksL_law_76 19 rfl rfl)
theorem dL_law_1931 : decode cL_law 1931 = .ok (.f2d, 1) := dk_141 (dk_at dksL_law_76 21 rfl rfl)
theorem dL_law_1932 : decode cL_law 1932 = .ok (.dcmp .l, 1) := dk_151 (dk_at dksL_law_76 22 rfl rfl)
theorem dL_law_1933 : decode cL_law 1933 = .ok (.ifCond .eq 25, 3) := dk_153 0 25 (dk_at dksL_law_77 0 rfl rfl)
theorem dL_law_1936 : decode cL_law 1936 = .ok (.aload 4, 2) := dk_25 4 (dk_at dksL_law_77 3 rfl rfl)
theorem dL_law_1938 : decode cL_law 1938 = .ok (.iconst 0, 1) := dk_3 (dk_at dksL_law_77 5 rfl rfl)
theorem dL_law_1939 : decode cL_law 1939 = .ok (.daload, 1) := dk_49 (dk_at dksL_law_77 6 rfl rfl)
theorem dL_law_1940 : decode cL_law 1940 = .ok (.aload 4, 2) := dk_25 4 (dk_at dksL_law_77 7 rfl rfl)
theorem dL_law_1942 : decode cL_law 1942 = .ok (.iconst 0, 1) := dk_3 (dk_at dksL_law_77 9 rfl rfl)
theorem dL_law_1943 : decode cL_law 1943 = .ok (.daload, 1) := dk_49 (dk_at dksL_law_77 10 rfl rfl)
theorem dL_law_1944 : decode cL_law 1944 = .ok (.dcmp .l, 1) := dk_151 (dk_at dksL_law_77 11 rfl rfl)
theorem dL_law_1945 : decode cL_law 1945 = .ok (.ifCond .eq 11, 3) := dk_153 0 11 (dk_at dksL_law_77 12 rfl rfl)
theorem dL_law_1948 : decode cL_law 1948 = .ok (.fload 7, 2) := dk_23 7 (dk_at dksL_law_77 15 rfl rfl)
theorem dL_law_1950 : decode cL_law 1950 = .ok (.fload 7, 2) := dk_23 7 (dk_at dksL_law_77 17 rfl rfl)
theorem dL_law_1952 : decode cL_law 1952 = .ok (.fcmp .l, 1) := dk_149 (dk_at dksL_law_77 19 rfl rfl)
theorem dL_law_1953 : decode cL_law 1953 = .ok (.ifCond .ne 5, 3) := dk_154 0 5 (dk_at dksL_law_77 20 rfl rfl)
theorem dL_law_1956 : decode cL_law 1956 = .ok (.iconst 0, 1) := dk_3 (dk_at dksL_law_77 23 rfl rfl)
theorem dL_law_1957 : decode cL_law 1957 = .ok (.ireturn, 1) := dk_172 (dk_at dksL_law_78 0 rfl rfl)
theorem dL_law_1958 : decode cL_law 1958 = .ok (.goto 214, 3) := dk_167 0 214 (dk_at dksL_law_78 1 rfl rfl)
theorem dL_law_1961 : decode cL_law 1961 = .ok (.aload_n 1, 1) := dk_43 (dk_at dksL_law_78 4 rfl rfl)
theorem dL_law_1962 : decode cL_law 1962 = .ok (.invokevirtual 233, 3) := dk_182 0 233 (dk_at dksL_law_78 5 rfl rfl)
theorem dL_law_1965 : decode cL_law 1965 = .ok (.dstore 6, 2) := dk_57 6 (dk_at dksL_law_78 8 rfl rfl)
theorem dL_law_1967 : decode cL_law 1967 = .ok (.aload_n 2, 1) := dk_44 (dk_at dksL_law_78 10 rfl rfl)
theorem dL_law_1968 : decode cL_law 1968 = .ok (.invokevirtual 237, 3) := dk_182 0 237 (dk_at dksL_law_78 11 rfl rfl)
theorem dL_law_1971 : decode cL_law 1971 = .ok (.dstore 8, 2) := dk_57 8 (dk_at dksL_law_78 14 rfl rfl)
theorem dL_law_1973 : decode cL_law 1973 = .ok (.dload 6, 2) := dk_24 6 (dk_at dksL_law_78 16 rfl rfl)
theorem dL_law_1975 : decode cL_law 1975 = .ok (.dload 8, 2) := dk_24 8 (dk_at dksL_law_78 18 rfl rfl)
theorem dL_law_1977 : decode cL_law 1977 = .ok (.dcmp .l, 1) := dk_151 (dk_at dksL_law_78 20 rfl rfl)
theorem dL_law_1978 : decode cL_law 1978 = .ok (.ifCond .eq 21, 3) := dk_153 0 21 (dk_at dksL_law_78 21 rfl rfl)
theorem dL_law_1981 : decode cL_law 1981 = .ok (.dload 6, 2) := dk_24 6 (dk_at dksL_law_79 0 rfl rfl)
theorem dL_law_1983 : decode cL_law 1983 = .ok (.dload 6, 2) := dk_24 6 (dk_at dksL_law_79 2 rfl rfl)
theorem dL_law_1985 : decode cL_law 1985 = .ok (.dcmp .l, 1) := dk_151 (dk_at dksL_law_79 4 rfl rfl)
theorem dL_law_1986 : decode cL_law 1986 = .ok (.ifCond .eq 11, 3) := dk_153 0 11 (dk_at dksL_law_79 5 rfl rfl)
theorem dL_law_1989 : decode cL_law 1989 = .ok (.dload 8, 2) := dk_24 8 (dk_at dksL_law_79 8 rfl rfl)
theorem dL_law_1991 : decode cL_law 1991 = .ok (.dload 8, 2) := dk_24 8 (dk_at dksL_law_79 10 rfl rfl)
theorem dL_law_1993 : decode cL_law 1993 = .ok (.dcmp .l, 1) := dk_151 (dk_at dksL_law_79 12 rfl rfl)
theorem dL_law_1994 : decode cL_law 1994 = .ok (.ifCond .ne 5, 3) := dk_154 0 5 (dk_at dksL_law_79 13 rfl rfl)
theorem dL_law_1997 : decode cL_law 1997 = .ok (.iconst 0, 1) := dk_3 (dk_at dksL_law_79 16 rfl rfl)
theorem dL_law_1998 : decode cL_law 1998 = .ok (.ireturn, 1) := dk_172 (dk_at dksL_law_79 17 rfl rfl)
theorem dL_law_1999 : decode cL_law 1999 = .ok (.goto 173, 3) := dk_167 0 173 (dk_at dksL_law_79 18 rfl rfl)
theorem dL_law_2002 : decode cL_law 2002 = .ok (.aload_n 1, 1) := dk_43 (dk_at dksL_law_79 21 rfl rfl)
theorem dL_law_2003 : decode cL_law 2003 = .ok (.aload_n 0, 1) := dk_42 (dk_at dksL_law_79 22 rfl rfl)
theorem dL_law_2004 : decode cL_law 2004 = .ok (.iload 5, 2) := dk_21 5 (dk_at dksL_law_80 0 rfl rfl)
theorem dL_law_2006 : decode cL_law 2006 = .ok (.iconst 1, 1) := dk_4 (dk_at dksL_law_80 2 rfl rfl)
theorem dL_law_2007 : decode cL_law 2007 = .ok (.iadd, 1) := dk_96 (dk_at dksL_law_80 3 rfl rfl)
theorem dL_law_2008 : decode cL_law 2008 = .ok (.iaload, 1) := dk_46 (dk_at dksL_law_80 4 rfl rfl)
theorem dL_law_2009 : decode cL_law 2009 = .ok (.aload_n 3, 1) := dk_45 (dk_at dksL_law_80 5 rfl rfl)
theorem dL_law_2010 : decode cL_law 2010 = .ok (.invokestatic 238, 3) := dk_184 0 238 (dk_at dksL_law_80 6 rfl rfl)
theorem dL_law_2013 : decode cL_law 2013 = .ok (.istore 6, 2) := dk_54 6 (dk_at dksL_law_80 9 rfl rfl)
theorem dL_law_2015 : decode cL_law 2015 = .ok (.aload_n 2, 1) := dk_44 (dk_at dksL_law_80 11 rfl rfl)
theorem dL_law_2016 : decode cL_law 2016 = .ok (.aload_n 0, 1) := dk_42 (dk_at dksL_law_80 12 rfl rfl)
theorem dL_law_2017 : decode cL_law 2017 = .ok (.iload 5, 2) := dk_21 5 (dk_at dksL_law_80 13 rfl rfl)
theorem dL_law_2019 : decode cL_law 2019 = .ok (.iconst 1, 1) := dk_4 (dk_at dksL_law_80 15 rfl rfl)
theorem dL_law_2020 : decode cL_law 2020 = .ok (.iadd, 1) := dk_96 (dk_at dksL_law_80 16 rfl rfl)
theorem dL_law_2021 : decode cL_law 2021 = .ok (.iaload, 1) := dk_46 (dk_at dksL_law_80 17 rfl rfl)
theorem dL_law_2022 : decode cL_law 2022 = .ok (.invokevirtual 240, 3) := dk_182 0 240 (dk_at dksL_law_80 18 rfl rfl)
theorem dL_law_2025 : decode cL_law 2025 = .ok (.istore 7, 2) := dk_54 7 (dk_at dksL_law_80 21 rfl rfl)
theorem dL_law_2027 : decode cL_law 2027 = .ok (.aload_n 2, 1) := dk_44 (dk_at dksL_law_80 23 rfl rfl)
theorem dL_law_2028 : decode cL_law 2028 = .ok (.invokevirtual 135, 3) := dk_182 0 135 (dk_at dksL_law_81 0 rfl rfl)
theorem dL_law_2031 : decode cL_law 2031 = .ok (.iload 6, 2) := dk_21 6 (dk_at dksL_law_81 3 rfl rfl)
theorem dL_law_2033 : decode cL_law 2033 = .ok (.if_icmp .eq 5, 3) := dk_159 0 5 (dk_at dksL_law_81 5 rfl rfl)
theorem dL_law_2036 : decode cL_law 2036 = .ok (.iconst 0, 1) := dk_3 (dk_at dksL_law_81 8 rfl rfl)
theorem dL_law_2037 : decode cL_law 2037 = .ok (.ireturn, 1) := dk_172 (dk_at dksL_law_81 9 rfl rfl)
theorem dL_law_2038 : decode cL_law 2038 = .ok (.iload 6, 2) := dk_21 6 (dk_at dksL_law_81 10 rfl rfl)
theorem dL_law_2040 : decode cL_law 2040 = .ok (.ifCond .ne 15, 3) := dk_154 0 15 (dk_at dksL_law_81 12 rfl rfl)
theorem dL_law_2043 : decode cL_law 2043 = .ok (.aload_n 3, 1) := dk_45 (dk_at dksL_law_81 15 rfl rfl)
theorem dL_law_2044 : decode cL_law 2044 = .ok (.iconst 0, 1) := dk_3 (dk_at dksL_law_81 16 rfl rfl)
theorem dL_law_2045 : decode cL_law 2045 = .ok (.laload, 1) := dk_47 (dk_at dksL_law_81 17 rfl rfl)
theorem dL_law_2046 : decode cL_law 2046 = .ok (.iload 7, 2) := dk_21 7 (dk_at dksL_law_81 18 rfl rfl)
theorem dL_law_2048 : decode cL_law 2048 = .ok (.i2l, 1) := dk_133 (dk_at dksL_law_81 20 rfl rfl)
theorem dL_law_2049 : decode cL_law 2049 = .ok (.lcmp, 1) := dk_148 (dk_at dksL_law_81 21 rfl rfl)
theorem dL_law_2050 : decode cL_law 2050 = .ok (.ifCond .eq 5, 3) := dk_153 0 5 (dk_at dksL_law_82 0 rfl rfl)
theorem dL_law_2053 : decode cL_law 2053 = .ok (.iconst 0, 1) := dk_3 (dk_at dksL_law_82 3 rfl rfl)
theorem dL_law_2054 : decode cL_law 2054 = .ok (.ireturn, 1) := dk_172 (dk_at dksL_law_82 4 rfl rfl)
theorem dL_law_2055 : decode cL_law 2055 = .ok (.goto 117, 3) := dk_167 0 117 (dk_at dksL_law_82 5 rfl rfl)
theorem dL_law_2058 : decode cL_law 2058 = .ok (.aload_n 1, 1) := dk_43 (dk_at dksL_law_82 8 rfl rfl)
theorem dL_law_2059 : decode cL_law 2059 = .ok (.invokevirtual 241, 3) := dk_182 0 241 (dk_at dksL_law_82 9 rfl rfl)
theorem dL_law_2062 : decode cL_law 2062 = .ok (.aload_n 2, 1) := dk_44 (dk_at dksL_law_82 12 rfl rfl)
theorem dL_law_2063 : decode cL_law 2063 = .ok (.invokevirtual 245, 3) := dk_182 0 245 (dk_at dksL_law_82 13 rfl rfl)
theorem dL_law_2066 : decode cL_law 2066 = .ok (.if_icmp .eq 106, 3) := dk_159 0 106 (dk_at dksL_law_82 16 rfl rfl)
theorem dL_law_2069 : decode cL_law 2069 = .ok (.iconst 0, 1) := dk_3 (dk_at dksL_law_82 19 rfl rfl)
theorem dL_law_2070 : decode cL_law 2070 = .ok (.ireturn, 1) := dk_172 (dk_at dksL_law_82 20 rfl rfl)
theorem dL_law_2071 : decode cL_law 2071 = .ok (.aload_n 1, 1) := dk_43 (dk_at dksL_law_82 21 rfl rfl)
theorem dL_law_2072 : decode cL_law 2072 = .ok (.aload_n 3, 1) := dk_45 (dk_at dksL_law_82 22 rfl rfl)
theorem dL_law_2073 : decode cL_law 2073 = .ok (.invokestatic 246, 3) := dk_184 0 246 (dk_at dksL_law_83 0 rfl rfl)
theorem dL_law_2076 : decode cL_law 2076 = .ok (.istore 6, 2) := dk_54 6 (dk_at dksL_law_83 3 rfl rfl)
theorem dL_law_2078 : decode cL_law 2078 = .ok (.aload_n 2, 1) := dk_44 (dk_at dksL_law_83 5 rfl rfl)
theorem dL_law_2079 : decode cL_law 2079 = .ok (.invokevirtual 248, 3) := dk_182 0 248 (dk_at dksL_law_83 6 rfl rfl)
theorem dL_law_2082 : decode cL_law 2082 = .ok (.istore 7, 2) := dk_54 7 (dk_at dksL_law_83 9 rfl rfl)
theorem dL_law_2084 : decode cL_law 2084 = .ok (.aload_n 2, 1) := dk_44 (dk_at dksL_law_83 11 rfl rfl)
theorem dL_law_2085 : decode cL_law 2085 = .ok (.invokevirtual 135, 3) := dk_182 0 135 (dk_at dksL_law_83 12 rfl rfl)
theorem dL_law_2088 : decode cL_law 2088 = .ok (.iload 6, 2) := dk_21 6 (dk_at dksL_law_83 15 rfl rfl)
theorem dL_law_2090 : decode cL_law 2090 = .ok (.if_icmp .eq 5, 3) := dk_159 0 5 (dk_at dksL_law_83 17 rfl rfl)
theorem dL_law_2093 : decode cL_law 2093 = .ok (.iconst 0, 1) := dk_3 (dk_at dksL_law_83 20 rfl rfl)
theorem dL_law_2094 : decode cL_law 2094 = .ok (.ireturn, 1) := dk_172 (dk_at dksL_law_83 21 rfl rfl)
theorem dL_law_2095 : decode cL_law 2095 = .ok (.iload 6, 2) := dk_21 6 (dk_at dksL_law_83 22 rfl rfl)
theorem dL_law_2097 : decode cL_law 2097 = .ok (.ifCond .ne 15, 3) := dk_154 0 15 (dk_at dksL_law_84 0 rfl rfl)
theorem dL_law_2100 : decode cL_law 2100 = .ok (.aload_n 3, 1) := dk_45 (dk_at dksL_law_84 3 rfl rfl)
theorem dL_law_2101 : decode cL_law 2101 = .ok (.iconst 0, 1) := dk_3 (dk_at dksL_law_84 4 rfl rfl)
theorem dL_law_2102 : decode cL_law 2102 = .ok (.laload, 1) := dk_47 (dk_at dksL_law_84 5 rfl rfl)
theorem dL_law_2103 : decode cL_law 2103 = .ok (.iload 7, 2) := dk_21 7 (dk_at dksL_law_84 6 rfl rfl)
theorem dL_law_2105 : decode cL_law 2105 = .ok (.i2l, 1) := dk_133 (dk_at dksL_law_84 8 rfl rfl)
theorem dL_law_2106 : decode cL_law 2106 = .ok (.lcmp, 1) := dk_148 (dk_at dksL_law_84 9 rfl rfl)
theorem dL_law_2107 : decode cL_law 2107 = .ok (.ifCond .eq 5, 3) := dk_153 0 5 (dk_at dksL_law_84 10 rfl rfl)
theorem dL_law_2110 : decode cL_law 2110 = .ok (.iconst 0, 1) := dk_3 (dk_at dksL_law_84 13 rfl rfl)
theorem dL_law_2111 : decode cL_law 2111 = .ok (.ireturn, 1) := dk_172 (dk_at dksL_law_84 14 rfl rfl)
theorem dL_law_2112 : decode cL_law 2112 = .ok (.goto 60, 3) := dk_167 0 60 (dk_at dksL_law_84 15 rfl rfl)
theorem dL_law_2115 : decode cL_law 2115 = .ok (.aload_n 1, 1) := dk_43 (dk_at dksL_law_84 18 rfl rfl)
theorem dL_law_2116 : decode cL_law 2116 = .ok (.invokevirtual 249, 3) := dk_182 0 249 (dk_at dksL_law_84 19 rfl rfl)
theorem dL_law_2119 : decode cL_law 2119 = .ok (.aload_n 2, 1) := dk_44 (dk_at dksL_law_84 22 rfl rfl)
theorem dL_law_2120 : decode cL_law 2120 = .ok (.invokevirtual 252, 3) := dk_182 0 252 (dk_at dksL_law_85 0 rfl rfl)
theorem dL_law_2123 : decode cL_law 2123 = .ok (.if_icmp .eq 49, 3) := dk_159 0 49 (dk_at dksL_law_85 3 rfl rfl)
theorem dL_law_2126 : decode cL_law 2126 = .ok (.iconst 0, 1) := dk_3 (dk_at dksL_law_85 6 rfl rfl)
theorem dL_law_2127 : decode cL_law 2127 = .ok (.ireturn, 1) := dk_172 (dk_at dksL_law_85 7 rfl rfl)
theorem dL_law_2128 : decode cL_law 2128 = .ok (.aload_n 1, 1) := dk_43 (dk_at dksL_law_85 8 rfl rfl)
theorem dL_law_2129 : decode cL_law 2129 = .ok (.aload_n 3, 1) := dk_45 (dk_at dksL_law_85 9 rfl rfl)
theorem dL_law_2130 : decode cL_law 2130 = .ok (.invokestatic 253, 3) := dk_184 0 253 (dk_at dksL_law_85 10 rfl rfl)
theorem dL_law_2133 : decode cL_law 2133 = .ok (.istore 6, 2) := dk_54 6 (dk_at dksL_law_85 13 rfl rfl)
theorem dL_law_2135 : decode cL_law 2135 = .ok (.aload_n 2, 1) := dk_44 (dk_at dksL_law_85 15 rfl rfl)
theorem dL_law_2136 : decode cL_law 2136 = .ok (.invokevirtual 255, 3) := dk_182 0 255 (dk_at dksL_law_85 16 rfl rfl)
theorem dL_law_2139 : decode cL_law 2139 = .ok (.istore 7, 2) := dk_54 7 (dk_at dksL_law_85 19 rfl rfl)
theorem dL_law_2141 : decode cL_law 2141 = .ok (.aload_n 2, 1) := dk_44 (dk_at dksL_law_85 21 rfl rfl)
theorem dL_law_2142 : decode cL_law 2142 = .ok (.invokevirtual 135, 3) := dk_182 0 135 (dk_at dksL_law_86 0 rfl rfl)
theorem dL_law_2145 : decode cL_law 2145 = .ok (.iload 6, 2) := dk_21 6 (dk_at dksL_law_86 3 rfl rfl)
theorem dL_law_2147 : decode cL_law 2147 = .ok (.if_icmp .eq 5, 3) := dk_159 0 5 (dk_at dksL_law_86 5 rfl rfl)
theorem dL_law_2150 : decode cL_law 2150 = .ok (.iconst 0, 1) := dk_3 (dk_at dksL_law_86 8 rfl rfl)
theorem dL_law_2151 : decode cL_law 2151 = .ok (.ireturn, 1) := dk_172 (dk_at dksL_law_86 9 rfl rfl)
theorem dL_law_2152 : decode cL_law 2152 = .ok (.iload 6, 2) := dk_21 6 (dk_at dksL_law_86 10 rfl rfl)
theorem dL_law_2154 : decode cL_law 2154 = .ok (.ifCond .ne 15, 3) := dk_154 0 15 (dk_at dksL_law_86 12 rfl rfl)
theorem dL_law_2157 : decode cL_law 2157 = .ok (.aload_n 3, 1) := dk_45 (dk_at dksL_law_86 15 rfl rfl)
theorem dL_law_2158 : decode cL_law 2158 = .ok (.iconst 0, 1) := dk_3 (dk_at dksL_law_86 16 rfl rfl)
theorem dL_law_2159 : decode cL_law 2159 = .ok (.laload, 1) := dk_47 (dk_at dksL_law_86 17 rfl rfl)
theorem dL_law_2160 : decode cL_law 2160 = .ok (.iload 7, 2) := dk_21 7 (dk_at dksL_law_86 18 rfl rfl)
theorem dL_law_2162 : decode cL_law 2162 = .ok (.i2l, 1) := dk_133 (dk_at dksL_law_86 20 rfl rfl)
theorem dL_law_2163 : decode cL_law 2163 = .ok (.lcmp, 1) := dk_148 (dk_at dksL_law_86 21 rfl rfl)
theorem dL_law_2164 : decode cL_law 2164 = .ok (.ifCond .eq 5, 3) := dk_153 0 5 (dk_at dksL_law_87 0 rfl rfl)
theorem dL_law_2167 : decode cL_law 2167 = .ok (.iconst 0, 1) := dk_3 (dk_at dksL_law_87 3 rfl rfl)
theorem dL_law_2168 : decode cL_law 2168 = .ok (.ireturn, 1) := dk_172 (dk_at dksL_law_87 4 rfl rfl)
theorem dL_law_2169 : decode cL_law 2169 = .ok (.goto 3, 3) := dk_167 0 3 (dk_at dksL_law_87 5 rfl rfl)
theorem dL_law_2172 : decode cL_law 2172 = .ok (.iinc 5 4, 3) := dk_132 5 4 (dk_at dksL_law_87 8 rfl rfl)
theorem dL_law_2175 : decode cL_law 2175 = .ok (.goto (-2147), 3) := dk_167 247 157 (dk_at dksL_law_87 11 rfl rfl)
theorem dL_law_2178 : decode cL_law 2178 = .ok (.iconst 1, 1) := dk_4 (dk_at dksL_law_87 14 rfl rfl)
theorem dL_law_2179 : decode cL_law 2179 = .ok (.ireturn, 1) := dk_172 (dk_at dksL_law_87 15 rfl rfl)
