set_option maxRecDepth 100000 in
theorem kb_105 : (c_105).all (ckB 105) = true := by decide +kernel
set_option maxRecDepth 100000 in
theorem kb_106 : (c_106).all (ckB 106) = true := by decide +kernel
set_option maxRecDepth 100000 in
theorem kb_107 : (c_107).all (ckB 107) = true := by decide +kernel
set_option maxRecDepth 100000 in
theorem kb_108 : (c_108).all (ckB 108) = true := by decide +kernel
set_option maxRecDepth 100000 in
theorem kb_109 : (c_109).all (ckB 109) = true := by decide +kernel
set_option maxRecDepth 100000 in
theorem kb_110 : (c_110).all (ckB 110) = true := by decide +kernel
set_option maxRecDepth 100000 in
theorem kb_111 : (c_111).all (ckB 111) = true := by decide +kernel
set_option maxRecDepth 100000 in
theorem kb_112 : (c_112).all (ckB 112) = true := by decide +kernel
set_option maxRecDepth 100000 in
theorem kb_113 : (c_113).all (ckB 113) = true := by decide +kernel
set_option maxRecDepth 100000 in
theorem kb_114 : (c_114).all (ckB 114) = true := by decide +kernel
set_option maxRecDepth 100000 in
theorem kb_115 : (c_115).all (ckB 115) = true := by decide +kernel
set_option maxRecDepth 100000 in
theorem kb_116 : (c_116).all (ckB 116) = true := by decide +kernel
set_option maxRecDepth 100000 in
theorem kb_117 : (c_117).all (ckB 117) = true := by decide +kernel
set_option maxRecDepth 100000 in
theorem kb_118 : (c_118).all (ckB 118) = true := by decide +kernel
set_option maxRecDepth 100000 in
theorem kb_119 : (c_119).all (ckB 119) = true := by decide +kernel
set_option maxRecDepth 100000 in
theorem kb_120 : (c_120).all (ckB 120) = true := by decide +kernel
set_option maxRecDepth 100000 in
theorem kb_121 : (c_121).all (ckB 121) = true := by decide +kernel
set_option maxRecDepth 100000 in
theorem kb_122 : (c_122).all (ckB 122) = true := by decide +kernel
set_option maxRecDepth 100000 in
theorem kb_123 : (c_123).all (ckB 123) = true := by decide +kernel
set_option maxRecDepth 100000 in
theorem kb_124 : (c_124).all (ckB 124) = true := by decide +kernel
set_option maxRecDepth 100000 in
theorem kb_125 : (c_125).all (ckB 125) = true := by decide +kernel
set_option maxRecDepth 100000 in
theorem kb_126 : (c_126).all (ckB 126) = true := by decide +kernel
set_option maxRecDepth 100000 in
theorem kb_127 : (c_127).all (ckB 127) = true := by decide +kernel
set_option maxRecDepth 100000 in
theorem kb_128 : (c_128).all (ckB 128) = true := by decide +kernel
set_option maxRecDepth 100000 in
theorem kb_129 : (c_129).all (ckB 129) = true := by decide +kernel
set_option maxRecDepth 100000 in
theorem kb_130 : (c_130).all (ckB 130) = true := by decide +kernel
set_option maxRecDepth 100000 in
theorem kb_131 : (c_131).all (ckB 131) = true := by decide +kernel
set_option maxRecDepth 100000 in
theorem kb_132 : (c_132).all (ckB 132) = true := by decide +kernel
set_option maxRecDepth 100000 in
theorem kb_133 : (c_133).all (ckB 133) = true := by decide +kernel
set_option maxRecDepth 100000 in
theorem kb_134 : (c_134).all (ckB 134) = true := by decide +kernel
set_option maxRecDepth 100000 in
theorem kb_135 : (c_135).all (ckB 135) = true := by decide +kernel
set_option maxRecDepth 100000 in
theorem kb_136 : (c_136).all (ckB 136) = true := by decide +kernel
set_option maxRecDepth 100000 in
theorem kb_137 : (c_137).all (ckB 137) = true := by decide +kernel
set_option maxRecDepth 100000 in
theorem kb_138 : (c_138).all (ckB 138) = true := by decide +kernel
set_option maxRecDepth 100000 in
theorem kb_139 : (c_139).all (ckB 139) = true := by decide +kernel
set_option maxRecDepth 100000 in
theorem kb_140 : (c_140).all (ckB 140) = true := by decide +kernel
set_option maxRecDepth 100000 in
theorem kb_141 : (c_141).all (ckB 141) = true := by decide +kernel
