set_option maxRecDepth 1000000
theorem de_261_27 : decK 261 27 = true := by decide +kernel
theorem de_261_28 : decK 261 28 = true := by decide +kernel
theorem de_261_29 : decK 261 29 = true := by decide +kernel
theorem de_261_30 : decK 261 30 = true := by decide +kernel
theorem de_261_31 : decK 261 31 = true := by decide +kernel
theorem de_261_32 : decK 261 32 = true := by decide +kernel
theorem de_261_33 : decK 261 33 = true := by decide +kernel
theorem de_261_34 : decK 261 34 = true := by decide +kernel
