set_option maxRecDepth 100000
theorem xcb_39 : (Int8.ofInt 39).toInt32 = 39 := by decide +kernel
theorem xcb_63 : (Int8.ofInt 63).toInt32 = 63 := by decide +kernel
theorem xci_m8 : Int32.ofInt (-8) = (-8) := by decide +kernel
