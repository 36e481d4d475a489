/-! THROWS: the words that the exceptions' constructors ask -/
set_option maxRecDepth 100000
theorem tw_IndexOutOfBoundsException : ∀ w ∈ vx_at0 RX1 3 "java/lang/IndexOutOfBoundsException" ["java/lang/RuntimeException", "java/lang/Exception"], w ∈ lw_tbl := by decide +kernel
theorem tg_IndexOutOfBoundsException : ∀ w ∈ vx_at0 RX1 3 "java/lang/IndexOutOfBoundsException" ["java/lang/RuntimeException", "java/lang/Exception"], (goodWord w || (stw w && w.onTables)) = true := by decide +kernel
theorem tw_IllegalArgumentException : ∀ w ∈ vx_at0 RX1 9 "java/lang/IllegalArgumentException" ["java/lang/RuntimeException", "java/lang/Exception"], w ∈ lw_tbl := by decide +kernel
theorem tg_IllegalArgumentException : ∀ w ∈ vx_at0 RX1 9 "java/lang/IllegalArgumentException" ["java/lang/RuntimeException", "java/lang/Exception"], (goodWord w || (stw w && w.onTables)) = true := by decide +kernel
theorem tw_IllegalStateException : ∀ w ∈ vx_at0 RX1 12 "java/lang/IllegalStateException" ["java/lang/RuntimeException", "java/lang/Exception"], w ∈ lw_tbl := by decide +kernel
theorem tg_IllegalStateException : ∀ w ∈ vx_at0 RX1 12 "java/lang/IllegalStateException" ["java/lang/RuntimeException", "java/lang/Exception"], (goodWord w || (stw w && w.onTables)) = true := by decide +kernel
theorem tw_NoSuchElementException : ∀ w ∈ vx_at0 RX1 485 "java/util/NoSuchElementException" ["java/lang/RuntimeException", "java/lang/Exception"], w ∈ lw_tbl := by decide +kernel
theorem tg_NoSuchElementException : ∀ w ∈ vx_at0 RX1 485 "java/util/NoSuchElementException" ["java/lang/RuntimeException", "java/lang/Exception"], (goodWord w || (stw w && w.onTables)) = true := by decide +kernel
