set_option maxRecDepth 100000 in
theorem kb_60 : (c_60).all (ckB 60) = true := by decide +kernel
set_option maxRecDepth 100000 in
theorem kb_61 : (c_61).all (ckB 61) = true := by decide +kernel
set_option maxRecDepth 100000 in
theorem kb_62 : (c_62).all (ckB 62) = true := by decide +kernel
set_option maxRecDepth 100000 in
theorem kb_63 : (c_63).all (ckB 63) = true := by decide +kernel
set_option maxRecDepth 100000 in
theorem kb_64 : (c_64).all (ckB 64) = true := by decide +kernel
set_option maxRecDepth 100000 in
theorem kb_65 : (c_65).all (ckB 65) = true := by decide +kernel
set_option maxRecDepth 100000 in
theorem kb_66 : (c_66).all (ckB 66) = true := by decide +kernel
set_option maxRecDepth 100000 in
theorem kb_67 : (c_67).all (ckB 67) = true := by decide +kernel
set_option maxRecDepth 100000 in
theorem kb_68 : (c_68).all (ckB 68) = true := by decide +kernel
set_option maxRecDepth 100000 in
theorem kb_69 : (c_69).all (ckB 69) = true := by decide +kernel
set_option maxRecDepth 100000 in
theorem kb_70 : (c_70).all (ckB 70) = true := by decide +kernel
set_option maxRecDepth 100000 in
theorem kb_71 : (c_71).all (ckB 71) = true := by decide +kernel
set_option maxRecDepth 100000 in
theorem kb_72 : (c_72).all (ckB 72) = true := by decide +kernel
set_option maxRecDepth 100000 in
theorem kb_73 : (c_73).all (ckB 73) = true := by decide +kernel
set_option maxRecDepth 100000 in
theorem kb_74 : (c_74).all (ckB 74) = true := by decide +kernel
set_option maxRecDepth 100000 in
theorem kb_75 : (c_75).all (ckB 75) = true := by decide +kernel
set_option maxRecDepth 100000 in
theorem kb_76 : (c_76).all (ckB 76) = true := by decide +kernel
set_option maxRecDepth 100000 in
theorem kb_77 : (c_77).all (ckB 77) = true := by decide +kernel
set_option maxRecDepth 100000 in
theorem kb_78 : (c_78).all (ckB 78) = true := by decide +kernel
set_option maxRecDepth 100000 in
theorem kb_79 : (c_79).all (ckB 79) = true := by decide +kernel
set_option maxRecDepth 100000 in
theorem kb_80 : (c_80).all (ckB 80) = true := by decide +kernel
set_option maxRecDepth 100000 in
theorem kb_81 : (c_81).all (ckB 81) = true := by decide +kernel
set_option maxRecDepth 100000 in
theorem kb_82 : (c_82).all (ckB 82) = true := by decide +kernel
set_option maxRecDepth 100000 in
theorem kb_83 : (c_83).all (ckB 83) = true := by decide +kernel
set_option maxRecDepth 100000 in
theorem kb_84 : (c_84).all (ckB 84) = true := by decide +kernel
set_option maxRecDepth 100000 in
theorem kb_85 : (c_85).all (ckB 85) = true := by decide +kernel
set_option maxRecDepth 100000 in
theorem kb_86 : (c_86).all (ckB 86) = true := by decide +kernel
set_option maxRecDepth 100000 in
theorem kb_87 : (c_87).all (ckB 87) = true := by decide +kernel
set_option maxRecDepth 100000 in
theorem kb_88 : (c_88).all (ckB 88) = true := by decide +kernel
set_option maxRecDepth 100000 in
theorem kb_89 : (c_89).all (ckB 89) = true := by decide +kernel
set_option maxRecDepth 100000 in
theorem kb_90 : (c_90).all (ckB 90) = true := by decide +kernel
set_option maxRecDepth 100000 in
theorem kb_91 : (c_91).all (ckB 91) = true := by decide +kernel
set_option maxRecDepth 100000 in
theorem kb_92 : (c_92).all (ckB 92) = true := by decide +kernel
set_option maxRecDepth 100000 in
theorem kb_93 : (c_93).all (ckB 93) = true := by decide +kernel
set_option maxRecDepth 100000 in
theorem kb_94 : (c_94).all (ckB 94) = true := by decide +kernel
set_option maxRecDepth 100000 in
theorem kb_95 : (c_95).all (ckB 95) = true := by decide +kernel
set_option maxRecDepth 100000 in
theorem kb_96 : (c_96).all (ckB 96) = true := by decide +kernel
set_option maxRecDepth 100000 in
theorem kb_97 : (c_97).all (ckB 97) = true := by decide +kernel
set_option maxRecDepth 100000 in
theorem kb_98 : (c_98).all (ckB 98) = true := by decide +kernel
set_option maxRecDepth 100000 in
theorem kb_99 : (c_99).all (ckB 99) = true := by decide +kernel
set_option maxRecDepth 100000 in
theorem kb_100 : (c_100).all (ckB 100) = true := by decide +kernel
set_option maxRecDepth 100000 in
theorem kb_101 : (c_101).all (ckB 101) = true := by decide +kernel
set_option maxRecDepth 100000 in
theorem kb_102 : (c_102).all (ckB 102) = true := by decide +kernel
set_option maxRecDepth 100000 in
theorem kb_103 : (c_103).all (ckB 103) = true := by decide +kernel
set_option maxRecDepth 100000 in
theorem kb_104 : (c_104).all (ckB 104) = true := by decide +kernel
