theorem xat_X1_3 : ∀ w ∈ vx_at0 "WordCache" 3 "java/lang/IndexOutOfBoundsException" ["java/lang/RuntimeException", "java/lang/Exception"], w ∈ lw_tbl := by decide +kernel
theorem xal_X1_3 : (vx_at0 "WordCache" 3 "java/lang/IndexOutOfBoundsException" ["java/lang/RuntimeException", "java/lang/Exception"]).all (fun w => goodWord w || (x_nw w && w.onTables)) = true := by decide +kernel
theorem xat_X1_9 : ∀ w ∈ vx_at0 "WordCache" 9 "java/lang/IllegalStateException" ["java/lang/RuntimeException", "java/lang/Exception"], w ∈ lw_tbl := by decide +kernel
theorem xal_X1_9 : (vx_at0 "WordCache" 9 "java/lang/IllegalStateException" ["java/lang/RuntimeException", "java/lang/Exception"]).all (fun w => goodWord w || (x_nw w && w.onTables)) = true := by decide +kernel
theorem xat_X1_12 : ∀ w ∈ vx_at0 "WordCache" 12 "java/util/NoSuchElementException" ["java/lang/RuntimeException", "java/lang/Exception"], w ∈ lw_tbl := by decide +kernel
theorem xal_X1_12 : (vx_at0 "WordCache" 12 "java/util/NoSuchElementException" ["java/lang/RuntimeException", "java/lang/Exception"]).all (fun w => goodWord w || (x_nw w && w.onTables)) = true := by decide +kernel
theorem xat_X1_114 : ∀ w ∈ vx_at0 "WordCache" 114 "java/lang/UnsupportedOperationException" ["java/lang/RuntimeException", "java/lang/Exception"], w ∈ lw_tbl := by decide +kernel
theorem xal_X1_114 : (vx_at0 "WordCache" 114 "java/lang/UnsupportedOperationException" ["java/lang/RuntimeException", "java/lang/Exception"]).all (fun w => goodWord w || (x_nw w && w.onTables)) = true := by decide +kernel
theorem xat_X1_223 : ∀ w ∈ vx_at0 "WordCache" 223 "java/lang/IllegalArgumentException" ["java/lang/RuntimeException", "java/lang/Exception"], w ∈ lw_tbl := by decide +kernel
theorem xal_X1_223 : (vx_at0 "WordCache" 223 "java/lang/IllegalArgumentException" ["java/lang/RuntimeException", "java/lang/Exception"]).all (fun w => goodWord w || (x_nw w && w.onTables)) = true := by decide +kernel
theorem xat_X1_340 : ∀ w ∈ vx_at0 "WordCache" 340 "java/lang/ArithmeticException" ["java/lang/RuntimeException", "java/lang/Exception"], w ∈ lw_tbl := by decide +kernel
theorem xal_X1_340 : (vx_at0 "WordCache" 340 "java/lang/ArithmeticException" ["java/lang/RuntimeException", "java/lang/Exception"]).all (fun w => goodWord w || (x_nw w && w.onTables)) = true := by decide +kernel
