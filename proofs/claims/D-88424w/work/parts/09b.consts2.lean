set_option maxRecDepth 100000
theorem kb_25 : (Int8.ofInt (25)).toInt32 = 25 := by decide
theorem kb_31 : (Int8.ofInt (31)).toInt32 = 31 := by decide
theorem kb_63 : (Int8.ofInt (63)).toInt32 = 63 := by decide
theorem kb_125 : (Int8.ofInt (125)).toInt32 = 125 := by decide
theorem kc_8 : Int32.ofInt (8) = 8 := by decide
theorem kc_16 : Int32.ofInt (16) = 16 := by decide
theorem ks_150 : (Int16.ofInt (150)).toInt32 = 150 := by decide
theorem ks_256 : (Int16.ofInt (256)).toInt32 = 256 := by decide
theorem ks_601 : (Int16.ofInt (601)).toInt32 = 601 := by decide
theorem ks_1152 : (Int16.ofInt (1152)).toInt32 = 1152 := by decide
theorem ks_1200 : (Int16.ofInt (1200)).toInt32 = 1200 := by decide
theorem ks_1201 : (Int16.ofInt (1201)).toInt32 = 1201 := by decide
theorem ks_1800 : (Int16.ofInt (1800)).toInt32 = 1800 := by decide
theorem ks_2048 : (Int16.ofInt (2048)).toInt32 = 2048 := by decide
theorem ks_14400 : (Int16.ofInt (14400)).toInt32 = 14400 := by decide
