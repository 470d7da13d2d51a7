theorem bp_63 : (Int8.ofInt (63)).toInt32 = (nI 63) := by decide
theorem ic_8 : Int32.ofInt (8) = (nI 8) := by decide
theorem ic_16 : Int32.ofInt (16) = (nI 16) := by decide
theorem sp_256 : (Int16.ofInt (256)).toInt32 = (nI 256) := by decide
theorem sp_544 : (Int16.ofInt (544)).toInt32 = (nI 544) := by decide
