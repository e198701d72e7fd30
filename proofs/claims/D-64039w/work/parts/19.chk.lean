set_option maxRecDepth 100000 in
theorem kb_0 : (c_0).all (ckB 0) = true := by decide +kernel
set_option maxRecDepth 100000 in
theorem kb_1 : (c_1).all (ckB 1) = true := by decide +kernel
set_option maxRecDepth 100000 in
theorem kb_2 : (c_2).all (ckB 2) = true := by decide +kernel
set_option maxRecDepth 100000 in
theorem kb_3 : (c_3).all (ckB 3) = true := by decide +kernel
set_option maxRecDepth 100000 in
theorem kb_4 : (c_4).all (ckB 4) = true := by decide +kernel
set_option maxRecDepth 100000 in
theorem kb_5 : (c_5).all (ckB 5) = true := by decide +kernel
set_option maxRecDepth 100000 in
theorem kb_6 : (c_6).all (ckB 6) = true := by decide +kernel
set_option maxRecDepth 100000 in
theorem kb_7 : (c_7).all (ckB 7) = true := by decide +kernel
set_option maxRecDepth 100000 in
theorem kb_8 : (c_8).all (ckB 8) = true := by decide +kernel
set_option maxRecDepth 100000 in
theorem kb_9 : (c_9).all (ckB 9) = true := by decide +kernel
set_option maxRecDepth 100000 in
theorem kb_10 : (c_10).all (ckB 10) = true := by decide +kernel
set_option maxRecDepth 100000 in
theorem kb_11 : (c_11).all (ckB 11) = true := by decide +kernel
set_option maxRecDepth 100000 in
theorem kb_12 : (c_12).all (ckB 12) = true := by decide +kernel
set_option maxRecDepth 100000 in
theorem kb_13 : (c_13).all (ckB 13) = true := by decide +kernel
set_option maxRecDepth 100000 in
theorem kb_14 : (c_14).all (ckB 14) = true := by decide +kernel
set_option maxRecDepth 100000 in
theorem kb_15 : (c_15).all (ckB 15) = true := by decide +kernel
set_option maxRecDepth 100000 in
theorem kb_16 : (c_16).all (ckB 16) = true := by decide +kernel
set_option maxRecDepth 100000 in
theorem kb_17 : (c_17).all (ckB 17) = true := by decide +kernel
set_option maxRecDepth 100000 in
theorem kb_18 : (c_18).all (ckB 18) = true := by decide +kernel
set_option maxRecDepth 100000 in
theorem kb_19 : (c_19).all (ckB 19) = true := by decide +kernel
set_option maxRecDepth 100000 in
theorem kb_20 : (c_20).all (ckB 20) = true := by decide +kernel
set_option maxRecDepth 100000 in
theorem kb_21 : (c_21).all (ckB 21) = true := by decide +kernel
set_option maxRecDepth 100000 in
theorem kb_22 : (c_22).all (ckB 22) = true := by decide +kernel
set_option maxRecDepth 100000 in
theorem kb_23 : (c_23).all (ckB 23) = true := by decide +kernel
set_option maxRecDepth 100000 in
theorem kb_24 : (c_24).all (ckB 24) = true := by decide +kernel
set_option maxRecDepth 100000 in
theorem kb_25 : (c_25).all (ckB 25) = true := by decide +kernel
set_option maxRecDepth 100000 in
theorem kb_26 : (c_26).all (ckB 26) = true := by decide +kernel
set_option maxRecDepth 100000 in
theorem kb_27 : (c_27).all (ckB 27) = true := by decide +kernel
set_option maxRecDepth 100000 in
theorem kb_28 : (c_28).all (ckB 28) = true := by decide +kernel
set_option maxRecDepth 100000 in
theorem kb_29 : (c_29).all (ckB 29) = true := by decide +kernel
set_option maxRecDepth 100000 in
theorem kb_30 : (c_30).all (ckB 30) = true := by decide +kernel
set_option maxRecDepth 100000 in
theorem kb_31 : (c_31).all (ckB 31) = true := by decide +kernel
set_option maxRecDepth 100000 in
theorem kb_32 : (c_32).all (ckB 32) = true := by decide +kernel
set_option maxRecDepth 100000 in
theorem kb_33 : (c_33).all (ckB 33) = true := by decide +kernel
set_option maxRecDepth 100000 in
theorem kb_34 : (c_34).all (ckB 34) = true := by decide +kernel
set_option maxRecDepth 100000 in
theorem kb_35 : (c_35).all (ckB 35) = true := by decide +kernel
set_option maxRecDepth 100000 in
theorem kb_36 : (c_36).all (ckB 36) = true := by decide +kernel
set_option maxRecDepth 100000 in
theorem kb_37 : (c_37).all (ckB 37) = true := by decide +kernel
set_option maxRecDepth 100000 in
theorem kb_38 : (c_38).all (ckB 38) = true := by decide +kernel
set_option maxRecDepth 100000 in
theorem kb_39 : (c_39).all (ckB 39) = true := by decide +kernel
set_option maxRecDepth 100000 in
theorem kb_40 : (c_40).all (ckB 40) = true := by decide +kernel
set_option maxRecDepth 100000 in
theorem kb_41 : (c_41).all (ckB 41) = true := by decide +kernel
set_option maxRecDepth 100000 in
theorem kb_42 : (c_42).all (ckB 42) = true := by decide +kernel
set_option maxRecDepth 100000 in
theorem kb_43 : (c_43).all (ckB 43) = true := by decide +kernel
set_option maxRecDepth 100000 in
theorem kb_44 : (c_44).all (ckB 44) = true := by decide +kernel
set_option maxRecDepth 100000 in
theorem kb_45 : (c_45).all (ckB 45) = true := by decide +kernel
set_option maxRecDepth 100000 in
theorem kb_46 : (c_46).all (ckB 46) = true := by decide +kernel
set_option maxRecDepth 100000 in
theorem kb_47 : (c_47).all (ckB 47) = true := by decide +kernel
set_option maxRecDepth 100000 in
theorem kb_48 : (c_48).all (ckB 48) = true := by decide +kernel
set_option maxRecDepth 100000 in
theorem kb_49 : (c_49).all (ckB 49) = true := by decide +kernel
set_option maxRecDepth 100000 in
theorem kb_50 : (c_50).all (ckB 50) = true := by decide +kernel
set_option maxRecDepth 100000 in
theorem kb_51 : (c_51).all (ckB 51) = true := by decide +kernel
set_option maxRecDepth 100000 in
theorem kb_52 : (c_52).all (ckB 52) = true := by decide +kernel
set_option maxRecDepth 100000 in
theorem kb_53 : (c_53).all (ckB 53) = true := by decide +kernel
set_option maxRecDepth 100000 in
theorem kb_54 : (c_54).all (ckB 54) = true := by decide +kernel
set_option maxRecDepth 100000 in
theorem kb_55 : (c_55).all (ckB 55) = true := by decide +kernel
set_option maxRecDepth 100000 in
theorem kb_56 : (c_56).all (ckB 56) = true := by decide +kernel
set_option maxRecDepth 100000 in
theorem kb_57 : (c_57).all (ckB 57) = true := by decide +kernel
set_option maxRecDepth 100000 in
theorem kb_58 : (c_58).all (ckB 58) = true := by decide +kernel
set_option maxRecDepth 100000 in
theorem kb_59 : (c_59).all (ckB 59) = true := by decide +kernel
