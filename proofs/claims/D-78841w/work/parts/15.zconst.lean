set_option maxRecDepth 100000
theorem y_b7 : (Int8.ofInt 7).toInt32 = 7 := by decide
theorem y_s255 : (Int16.ofInt 255).toInt32 = 255 := by decide
theorem y_s1000 : (Int16.ofInt 1000).toInt32 = 1000 := by decide
